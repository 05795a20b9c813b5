set_option maxRecDepth 100000
set_option maxHeartbeats 2000000
theorem fd_14 : gFd [3] 11 "VowelChoirModel" "readTold" "[I" true := gFd_of (by decide +kernel)
theorem fd_15 : gFd [3] 12 "VowelChoirModel" "told" "[I" true := gFd_of (by decide +kernel)
theorem fd_16 : gFd [3] 14 "VowelChoirModel" "singer" "[[I" true := gFd_of (by decide +kernel)
theorem fd_17 : gFd [3] 13 "VowelChoirModel" "readSinger" "[[I" true := gFd_of (by decide +kernel)
theorem fd_18 : gFd [3] 15 "VowelChoirModel" "readNote" "[[I" true := gFd_of (by decide +kernel)
theorem fd_19 : gFd [3] 16 "VowelChoirModel" "note" "[[I" true := gFd_of (by decide +kernel)
theorem fd_20 : gFd [3] 17 "VowelChoirModel" "readLike" "[[I" true := gFd_of (by decide +kernel)
theorem fd_21 : gFd [3] 18 "VowelChoirModel" "like" "[[I" true := gFd_of (by decide +kernel)
theorem fd_22 : gFd [3] 29 "VowelChoirModel" "now" "[I" true := gFd_of (by decide +kernel)
theorem fd_23 : gFd [3] 19 "VowelChoirModel" "lawMany" "I" false := gFd_of (by decide +kernel)
theorem fd_24 : gFd [3] 33 "VowelChoirModel" "lines" "I" false := gFd_of (by decide +kernel)
theorem fd_25 : gFd [3] 34 "VowelChoirModel" "works" "I" false := gFd_of (by decide +kernel)
theorem fd_26 : gFd [3] 35 "VowelChoirModel" "refusedSteps" "I" false := gFd_of (by decide +kernel)
theorem fd_27 : gFd [3] 36 "VowelChoirModel" "images" "I" false := gFd_of (by decide +kernel)
theorem fd_28 : gFd [3] 3 "VowelChoirModel" "place" "I" false := gFd_of (by decide +kernel)
theorem fd_29 : gFd [3] 9 "VowelChoirModel" "fed" "[I" true := gFd_of (by decide +kernel)
theorem fd_30 : gFd [3] 10 "VowelChoirModel" "refused" "[I" true := gFd_of (by decide +kernel)
theorem fd_31 : gFd [3] 21 "VowelChoirModel" "law" "[[I" true := gFd_of (by decide +kernel)
theorem fd_32 : gFd [3] 22 "VowelChoirModel" "readLaw" "[[I" true := gFd_of (by decide +kernel)
theorem fd_33 : gFd [3] 23 "VowelChoirModel" "line" "[[I" true := gFd_of (by decide +kernel)
theorem fd_34 : gFd [3] 24 "VowelChoirModel" "readLine" "[[I" true := gFd_of (by decide +kernel)
theorem fd_35 : gFd [3] 25 "VowelChoirModel" "stack" "[I" true := gFd_of (by decide +kernel)
theorem fd_36 : gFd [3] 26 "VowelChoirModel" "known" "[I" true := gFd_of (by decide +kernel)
theorem fd_37 : gFd [3] 27 "VowelChoirModel" "step" "[[I" true := gFd_of (by decide +kernel)
theorem fd_38 : gFd [3] 30 "VowelChoirModel" "trial" "[I" true := gFd_of (by decide +kernel)
theorem fd_39 : gFd [3] 31 "VowelChoirModel" "before" "[[I" true := gFd_of (by decide +kernel)
theorem fd_40 : gFd [3] 32 "VowelChoirModel" "kept" "[[I" true := gFd_of (by decide +kernel)
theorem fd_41 : gFd [3] 41 "VowelChoirModel" "sits" "[I" true := gFd_of (by decide +kernel)
theorem fd_42 : gFd [3] 42 "VowelChoirModel" "bestSits" "[I" true := gFd_of (by decide +kernel)
theorem fd_43 : gFd [3] 44 "VowelChoirModel" "exact" "[J" true := gFd_of (by decide +kernel)
theorem fd_44 : gFd [3] 0 "VowelChoirModel" "thrown" "I" false := gFd_of (by decide +kernel)
theorem fd_45 : gFd [3] 1 "VowelChoirModel" "tape" "I" false := gFd_of (by decide +kernel)
theorem fd_46 : gFd [3] 2 "VowelChoirModel" "size" "I" false := gFd_of (by decide +kernel)
theorem fd_47 : gFd [3] 4 "VowelChoirModel" "at" "I" false := gFd_of (by decide +kernel)
theorem fd_48 : gFd [3] 5 "VowelChoirModel" "fault" "I" false := gFd_of (by decide +kernel)
theorem fd_49 : gFd [3] 6 "VowelChoirModel" "faultAt" "I" false := gFd_of (by decide +kernel)
theorem fd_50 : gFd [3] 7 "VowelChoirModel" "clauses" "I" false := gFd_of (by decide +kernel)
theorem fd_51 : gFd [3] 8 "VowelChoirModel" "open" "I" false := gFd_of (by decide +kernel)
theorem fd_52 : gFd [3] 20 "VowelChoirModel" "readLawMany" "I" false := gFd_of (by decide +kernel)
theorem fd_53 : gFd [3] 28 "VowelChoirModel" "steps" "I" false := gFd_of (by decide +kernel)
theorem fd_54 : gFd [3] 38 "VowelChoirModel" "heard" "I" false := gFd_of (by decide +kernel)
theorem fd_55 : gFd [3] 39 "VowelChoirModel" "begun" "I" false := gFd_of (by decide +kernel)
theorem fd_56 : gFd [3] 40 "VowelChoirModel" "doneSteps" "I" false := gFd_of (by decide +kernel)
theorem fd_57 : gFd [3] 43 "VowelChoirModel" "mostHanded" "I" false := gFd_of (by decide +kernel)
theorem fd_58 : gFd [3] 45 "VowelChoirModel" "lots" "I" false := gFd_of (by decide +kernel)
theorem fd_59 : gFd [3] 37 "VowelChoirModel" "spot" "I" false := gFd_of (by decide +kernel)
theorem pf_9 : parseFieldDescriptor "[J" = some (.array .long) := by decide +kernel
theorem pf_10 : parseFieldDescriptor "[I" = some (.array .int) := by decide +kernel
theorem pf_11 : parseFieldDescriptor "[[I" = some (.array (.array .int)) := by decide +kernel
section s17_model
variable {p : Program} {l : Launch} {e : Env} {R : Room} {s : State} {m : MethodId} {args : Array Value} {below : List Frame} {meth : Method} {c : Code} {D : gD} {K : gK} {u0 : Nat}
/-! VowelChoirModel.tellsNothing()V -/
def fX6_tellsNothing_i2 (ih : (Option Nat) → (Int32) → gS → Option (Unit × gS)) (a0 : Option Nat) (a1 : Int32) (S : gS) : Option (Unit × gS) :=
  (if (3 : Int32) ≤ a1 then
  (oGetR [3] 11 a0 S).bind fun x1 =>
  (oStI 0 x1 (3 : Int32) (5 : Int32) S).bind fun S2 =>
  some ((), S2)
  else
  (oGetR [3] 11 a0 S).bind fun x3 =>
  (oStI 0 x3 a1 (0 : Int32) S).bind fun S4 =>
  ih a0 (a1 + (1 : Int32)) S4)
def fX6_tellsNothing_l2 : Nat → (Option Nat) → (Int32) → gS → Option (Unit × gS)
  | 0 => fun _ _ _ => none
  | n + 1 => fun a0 a1 S => fX6_tellsNothing_i2 (fX6_tellsNothing_l2 n) a0 a1 S
def fX6_tellsNothing (p0 : Option Nat) (S : gS) : Option (Unit × gS) :=
  fX6_tellsNothing_l2 gFU p0 (0 : Int32) S
theorem wfX6_tellsNothing_l2 {r : Unit} {S1 : gS} (C : gCx p l R s m args meth c D K RX6 cX6_tellsNothing 2 (Option.none : Option Jvm.ClassFile.FieldType) [] "tellsNothing" u0) (hRf : R.frames = 1) (hRl : R.locals = 100) : ∀ (n : Nat) (a0 : Option Nat) (a1 : Int32) (S : gS), fX6_tellsNothing_l2 n a0 a1 S = some (r, S1) → gW p l e R s m args below meth c D K 2 u0 (gEnd below args s D K u0 (.inl none) S1) S 2 [(0, va_rf a0), (1, .int a1)] [] := by
  intro n
  induction n with
  | zero => intro a0 a1 S hF; cases hF
  | succ n hih =>
    intro a0 a1 S hF
    have hF : fX6_tellsNothing_i2 (fX6_tellsNothing_l2 n) a0 a1 S = some (r, S1) := hF
    revert hF hih
    generalize fX6_tellsNothing_l2 n = ih
    intro hih hF
    unfold fX6_tellsNothing_i2 at hF
    refine g_iload_n C 1 dX6_tellsNothing_2 rfl ?_
    refine g_iconst (v := (3 : Int32)) C dX6_tellsNothing_3 rfl ?_
    refine g_icmp_ge C 20 dX6_tellsNothing_4 rfl hF (fun c hF => ?_) (fun c hF => ?_)
    · refine g_aload_n C 0 dX6_tellsNothing_20 rfl ?_
      refine g_getR C dX6_tellsNothing_21 fd_14 (Or.inl q2039) (Or.inl rfl) hF (fun x1 hF => ?_)
      refine g_iconst (v := (3 : Int32)) C dX6_tellsNothing_24 rfl ?_
      refine g_iconst (v := (5 : Int32)) C dX6_tellsNothing_25 rfl ?_
      refine g_iast C dX6_tellsNothing_26 hF (fun S2 hF => ?_)
      cases hF
      exact g_vret C dX6_tellsNothing_27 rfl rfl
    · refine g_aload_n C 0 dX6_tellsNothing_7 rfl ?_
      refine g_getR C dX6_tellsNothing_8 fd_14 (Or.inl q2039) (Or.inl rfl) hF (fun x3 hF => ?_)
      refine g_iload_n C 1 dX6_tellsNothing_11 rfl ?_
      refine g_iconst (v := (0 : Int32)) C dX6_tellsNothing_12 rfl ?_
      refine g_iast C dX6_tellsNothing_13 hF (fun S4 hF => ?_)
      refine g_iinc (v := (1 : Int32)) C 1 dX6_tellsNothing_14 rfl rfl (by decide) (gcons rfl (gfr rfl (gfd rfl gf0))) ?_
      refine g_goto C 2 dX6_tellsNothing_17 rfl ?_
      exact g_sub [1, 0] rfl (hih a0 (a1 + (1 : Int32)) S4 hF)
theorem mX6_tellsNothing {l : Launch} {D : gD} {K : gK} (hl : l.stackTraces = false) : ∀ (p0 : Option Nat) (S : gS) (r : Unit) (S1 : gS), fX6_tellsNothing p0 S = some (r, S1) → gMet l D K yX6_tellsNothing (ws_ yX6_tellsNothing cX6_tellsNothing 2 (Option.none : Option Jvm.ClassFile.FieldType)) 1 100 [va_rf p0] S (.inl none) S1 := by
  intro p0 S r S1 hF
  unfold fX6_tellsNothing at hF
  refine gMet.of hl (by decide +kernel) rfl (gle (lgs_r lgs_0) (by decide)) (fun p e s m below meth c R hRf hRl C _ => ?_)
  generalize hargs : ([va_rf p0] : List Value).toArray = args at C ⊢
  generalize hu0 : S.2.2.1 = u0 at C ⊢
  rw [show lv_args 0 [va_rf p0] = [(0, va_rf p0)] from (lva_r rfl lva_0)]
  refine g_iconst (v := (0 : Int32)) C dX6_tellsNothing_0 rfl ?_
  refine g_istore_n C dX6_tellsNothing_1 (by decide) (gcons rfl (gfr rfl gf0)) ?_
  exact g_sub [1, 0] rfl (wfX6_tellsNothing_l2 C hRf hRl gFU p0 (0 : Int32) S hF)
/-! VowelChoirModel.lays([[I[[II)V -/
def fX6_lays_i10 (k2 : (Option Nat) → (Option Nat) → (Int32) → (Int32) → gS → Option (Unit × gS)) (ih : (Option Nat) → (Option Nat) → (Int32) → (Int32) → (Int32) → gS → Option (Unit × gS)) (a0 : Option Nat) (a1 : Option Nat) (a2 : Int32) (a3 : Int32) (a4 : Int32) (S : gS) : Option (Unit × gS) :=
  (oLdR 5 a1 a3 S).bind fun x1 =>
  (oLen x1 S).bind fun x2 =>
  (if x2 ≤ a4 then
  k2 a0 a1 a2 (a3 + (1 : Int32)) S
  else
  (oLdR 5 a1 a3 S).bind fun x3 =>
  (oLdR 5 a0 a3 S).bind fun x4 =>
  (oLdI 0 x4 a4 S).bind fun x5 =>
  (oStI 0 x3 a4 x5 S).bind fun S6 =>
  ih a0 a1 a2 a3 (a4 + (1 : Int32)) S6)
def fX6_lays_l10 (k2 : (Option Nat) → (Option Nat) → (Int32) → (Int32) → gS → Option (Unit × gS)) : Nat → (Option Nat) → (Option Nat) → (Int32) → (Int32) → (Int32) → gS → Option (Unit × gS)
  | 0 => fun _ _ _ _ _ _ => none
  | n + 1 => fun a0 a1 a2 a3 a4 S => fX6_lays_i10 k2 (fX6_lays_l10 k2 n) a0 a1 a2 a3 a4 S
def fX6_lays_i2 (ih : (Option Nat) → (Option Nat) → (Int32) → (Int32) → gS → Option (Unit × gS)) (a0 : Option Nat) (a1 : Option Nat) (a2 : Int32) (a3 : Int32) (S : gS) : Option (Unit × gS) :=
  (if a2 ≤ a3 then
  some ((), S)
  else
  fX6_lays_l10 ih gFU a0 a1 a2 a3 (0 : Int32) S)
def fX6_lays_l2 : Nat → (Option Nat) → (Option Nat) → (Int32) → (Int32) → gS → Option (Unit × gS)
  | 0 => fun _ _ _ _ _ => none
  | n + 1 => fun a0 a1 a2 a3 S => fX6_lays_i2 (fX6_lays_l2 n) a0 a1 a2 a3 S
def fX6_lays (p0 : Option Nat) (p1 : Option Nat) (p2 : Int32) (S : gS) : Option (Unit × gS) :=
  fX6_lays_l2 gFU p0 p1 p2 (0 : Int32) S
theorem wfX6_lays_l10 {r : Unit} {S1 : gS} (C : gCx p l R s m args meth c D K RX6 cX6_lays 5 (Option.none : Option Jvm.ClassFile.FieldType) [] "lays" u0) (hRf : R.frames = 1) (hRl : R.locals = 100) (k2 : (Option Nat) → (Option Nat) → (Int32) → (Int32) → gS → Option (Unit × gS)) (hk2 : ∀ (a0 : Option Nat) (a1 : Option Nat) (a2 : Int32) (a3 : Int32) (S : gS), k2 a0 a1 a2 a3 S = some (r, S1) → gW p l e R s m args below meth c D K 5 u0 (gEnd below args s D K u0 (.inl none) S1) S 2 [(0, va_rf a0), (1, va_rf a1), (2, .int a2), (3, .int a3)] []) : ∀ (n : Nat) (a0 : Option Nat) (a1 : Option Nat) (a2 : Int32) (a3 : Int32) (a4 : Int32) (S : gS), fX6_lays_l10 k2 n a0 a1 a2 a3 a4 S = some (r, S1) → gW p l e R s m args below meth c D K 5 u0 (gEnd below args s D K u0 (.inl none) S1) S 10 [(0, va_rf a0), (1, va_rf a1), (2, .int a2), (3, .int a3), (4, .int a4)] [] := by
  intro n
  induction n with
  | zero => intro a0 a1 a2 a3 a4 S hF; cases hF
  | succ n hih =>
    intro a0 a1 a2 a3 a4 S hF
    have hF : fX6_lays_i10 k2 (fX6_lays_l10 k2 n) a0 a1 a2 a3 a4 S = some (r, S1) := hF
    revert hF hih
    generalize fX6_lays_l10 k2 n = ih
    intro hih hF
    unfold fX6_lays_i10 at hF
    refine g_iload C 4 dX6_lays_10 rfl ?_
    refine g_aload_n C 1 dX6_lays_12 rfl ?_
    refine g_iload_n C 3 dX6_lays_13 rfl ?_
    refine g_aald C (kd := 5) rfl dX6_lays_14 hF (fun x1 hF => ?_)
    refine g_alen C dX6_lays_15 hF (fun x2 hF => ?_)
    refine g_icmp_ge C 37 dX6_lays_16 rfl hF (fun c hF => ?_) (fun c hF => ?_)
    · refine g_iinc (v := (1 : Int32)) C 3 dX6_lays_37 rfl rfl (by decide) rfl ?_
      refine g_goto C 2 dX6_lays_40 rfl ?_
      exact g_sub [1, 2, 3, 0] rfl (hk2 a0 a1 a2 (a3 + (1 : Int32)) S hF)
    · refine g_aload_n C 1 dX6_lays_19 rfl ?_
      refine g_iload_n C 3 dX6_lays_20 rfl ?_
      refine g_aald C (kd := 5) rfl dX6_lays_21 hF (fun x3 hF => ?_)
      refine g_iload C 4 dX6_lays_22 rfl ?_
      refine g_aload_n C 0 dX6_lays_24 rfl ?_
      refine g_iload_n C 3 dX6_lays_25 rfl ?_
      refine g_aald C (kd := 5) rfl dX6_lays_26 hF (fun x4 hF => ?_)
      refine g_iload C 4 dX6_lays_27 rfl ?_
      refine g_iald C dX6_lays_29 hF (fun x5 hF => ?_)
      refine g_iast C dX6_lays_30 hF (fun S6 hF => ?_)
      refine g_iinc (v := (1 : Int32)) C 4 dX6_lays_31 rfl rfl (by decide) rfl ?_
      refine g_goto C 10 dX6_lays_34 rfl ?_
      exact g_sub [1, 2, 3, 4, 0] rfl (hih a0 a1 a2 a3 (a4 + (1 : Int32)) S6 hF)
theorem wfX6_lays_l2 {r : Unit} {S1 : gS} (C : gCx p l R s m args meth c D K RX6 cX6_lays 5 (Option.none : Option Jvm.ClassFile.FieldType) [] "lays" u0) (hRf : R.frames = 1) (hRl : R.locals = 100) : ∀ (n : Nat) (a0 : Option Nat) (a1 : Option Nat) (a2 : Int32) (a3 : Int32) (S : gS), fX6_lays_l2 n a0 a1 a2 a3 S = some (r, S1) → gW p l e R s m args below meth c D K 5 u0 (gEnd below args s D K u0 (.inl none) S1) S 2 [(0, va_rf a0), (1, va_rf a1), (2, .int a2), (3, .int a3)] [] := by
  intro n
  induction n with
  | zero => intro a0 a1 a2 a3 S hF; cases hF
  | succ n hih =>
    intro a0 a1 a2 a3 S hF
    have hF : fX6_lays_i2 (fX6_lays_l2 n) a0 a1 a2 a3 S = some (r, S1) := hF
    revert hF hih
    generalize fX6_lays_l2 n = ih
    intro hih hF
    unfold fX6_lays_i2 at hF
    refine g_iload_n C 3 dX6_lays_2 rfl ?_
    refine g_iload_n C 2 dX6_lays_3 rfl ?_
    refine g_icmp_ge C 43 dX6_lays_4 rfl hF (fun c hF => ?_) (fun c hF => ?_)
    · cases hF
      exact g_vret C dX6_lays_43 rfl rfl
    · refine g_iconst (v := (0 : Int32)) C dX6_lays_7 rfl ?_
      refine g_istore C dX6_lays_8 (by decide) rfl ?_
      exact g_sub [1, 2, 3, 4, 0] rfl (wfX6_lays_l10 C hRf hRl (ih) (hih) gFU a0 a1 a2 a3 (0 : Int32) S hF)
theorem mX6_lays {l : Launch} {D : gD} {K : gK} (hl : l.stackTraces = false) : ∀ (p0 : Option Nat) (p1 : Option Nat) (p2 : Int32) (S : gS) (r : Unit) (S1 : gS), fX6_lays p0 p1 p2 S = some (r, S1) → gMet l D K yX6_lays (ws_ yX6_lays cX6_lays 5 (Option.none : Option Jvm.ClassFile.FieldType)) 1 100 [va_rf p0, va_rf p1, .int p2] S (.inl none) S1 := by
  intro p0 p1 p2 S r S1 hF
  unfold fX6_lays at hF
  refine gMet.of hl (by decide +kernel) rfl (gle (lgs_r (lgs_r (lgs_i lgs_0))) (by decide)) (fun p e s m below meth c R hRf hRl C _ => ?_)
  generalize hargs : ([va_rf p0, va_rf p1, .int p2] : List Value).toArray = args at C ⊢
  generalize hu0 : S.2.2.1 = u0 at C ⊢
  rw [show lv_args 0 [va_rf p0, va_rf p1, .int p2] = [(0, va_rf p0), (1, va_rf p1), (2, .int p2)] from (lva_r rfl (lva_r rfl (lva_i rfl lva_0)))]
  refine g_iconst (v := (0 : Int32)) C dX6_lays_0 rfl ?_
  refine g_istore_n C dX6_lays_1 (by decide) rfl ?_
  exact g_sub [1, 2, 3, 0] rfl (wfX6_lays_l2 C hRf hRl gFU p0 p1 p2 (0 : Int32) S hF)
/-! VowelChoirModel.breathes([I)V -/
def fX6_breathes_i2 (ih : (Option Nat) → (Option Nat) → (Int32) → gS → Option (Unit × gS)) (a0 : Option Nat) (a1 : Option Nat) (a2 : Int32) (S : gS) : Option (Unit × gS) :=
  (oGetR [3] 12 a0 S).bind fun x1 =>
  (oLdI 0 x1 (0 : Int32) S).bind fun x2 =>
  (if x2 ≤ a2 then
  some ((), S)
  else
  (oGetR [3] 14 a0 S).bind fun x3 =>
  (oLdR 5 x3 a2 S).bind fun x4 =>
  (oLdI 0 x4 (2 : Int32) S).bind fun x5 =>
  (oStI 0 a1 ((0 : Int32) + a2) x5 S).bind fun S6 =>
  ih a0 a1 (a2 + (1 : Int32)) S6)
def fX6_breathes_l2 : Nat → (Option Nat) → (Option Nat) → (Int32) → gS → Option (Unit × gS)
  | 0 => fun _ _ _ _ => none
  | n + 1 => fun a0 a1 a2 S => fX6_breathes_i2 (fX6_breathes_l2 n) a0 a1 a2 S
def fX6_breathes (p0 : Option Nat) (p1 : Option Nat) (S : gS) : Option (Unit × gS) :=
  fX6_breathes_l2 gFU p0 p1 (0 : Int32) S
theorem wfX6_breathes_l2 {r : Unit} {S1 : gS} (C : gCx p l R s m args meth c D K RX6 cX6_breathes 3 (Option.none : Option Jvm.ClassFile.FieldType) [] "breathes" u0) (hRf : R.frames = 1) (hRl : R.locals = 100) : ∀ (n : Nat) (a0 : Option Nat) (a1 : Option Nat) (a2 : Int32) (S : gS), fX6_breathes_l2 n a0 a1 a2 S = some (r, S1) → gW p l e R s m args below meth c D K 3 u0 (gEnd below args s D K u0 (.inl none) S1) S 2 [(0, va_rf a0), (1, va_rf a1), (2, .int a2)] [] := by
  intro n
  induction n with
  | zero => intro a0 a1 a2 S hF; cases hF
  | succ n hih =>
    intro a0 a1 a2 S hF
    have hF : fX6_breathes_i2 (fX6_breathes_l2 n) a0 a1 a2 S = some (r, S1) := hF
    revert hF hih
    generalize fX6_breathes_l2 n = ih
    intro hih hF
    unfold fX6_breathes_i2 at hF
    refine g_iload_n C 2 dX6_breathes_2 rfl ?_
    refine g_aload_n C 0 dX6_breathes_3 rfl ?_
    refine g_getR C dX6_breathes_4 fd_15 (Or.inl q2040) (Or.inl rfl) hF (fun x1 hF => ?_)
    refine g_iconst (v := (0 : Int32)) C dX6_breathes_7 rfl ?_
    refine g_iald C dX6_breathes_8 hF (fun x2 hF => ?_)
    refine g_icmp_ge C 31 dX6_breathes_9 rfl hF (fun c hF => ?_) (fun c hF => ?_)
    · cases hF
      exact g_vret C dX6_breathes_31 rfl rfl
    · refine g_aload_n C 1 dX6_breathes_12 rfl ?_
      refine g_iconst (v := (0 : Int32)) C dX6_breathes_13 rfl ?_
      refine g_iload_n C 2 dX6_breathes_14 rfl ?_
      refine g_iadd C dX6_breathes_15 ?_
      refine g_aload_n C 0 dX6_breathes_16 rfl ?_
      refine g_getR C dX6_breathes_17 fd_16 (Or.inl q2042) (Or.inl rfl) hF (fun x3 hF => ?_)
      refine g_iload_n C 2 dX6_breathes_20 rfl ?_
      refine g_aald C (kd := 5) rfl dX6_breathes_21 hF (fun x4 hF => ?_)
      refine g_iconst (v := (2 : Int32)) C dX6_breathes_22 rfl ?_
      refine g_iald C dX6_breathes_23 hF (fun x5 hF => ?_)
      refine g_iast C dX6_breathes_24 hF (fun S6 hF => ?_)
      refine g_iinc (v := (1 : Int32)) C 2 dX6_breathes_25 rfl rfl (by decide) (gcons rfl (gfk rfl rfl (gfr rfl (gfd rfl gf0)))) ?_
      refine g_goto C 2 dX6_breathes_28 rfl ?_
      exact g_sub [1, 2, 0] rfl (hih a0 a1 (a2 + (1 : Int32)) S6 hF)
theorem mX6_breathes {l : Launch} {D : gD} {K : gK} (hl : l.stackTraces = false) : ∀ (p0 : Option Nat) (p1 : Option Nat) (S : gS) (r : Unit) (S1 : gS), fX6_breathes p0 p1 S = some (r, S1) → gMet l D K yX6_breathes (ws_ yX6_breathes cX6_breathes 3 (Option.none : Option Jvm.ClassFile.FieldType)) 1 100 [va_rf p0, va_rf p1] S (.inl none) S1 := by
  intro p0 p1 S r S1 hF
  unfold fX6_breathes at hF
  refine gMet.of hl (by decide +kernel) rfl (gle (lgs_r (lgs_r lgs_0)) (by decide)) (fun p e s m below meth c R hRf hRl C _ => ?_)
  generalize hargs : ([va_rf p0, va_rf p1] : List Value).toArray = args at C ⊢
  generalize hu0 : S.2.2.1 = u0 at C ⊢
  rw [show lv_args 0 [va_rf p0, va_rf p1] = [(0, va_rf p0), (1, va_rf p1)] from (lva_r rfl (lva_r rfl lva_0))]
  refine g_iconst (v := (0 : Int32)) C dX6_breathes_0 rfl ?_
  refine g_istore_n C dX6_breathes_1 (by decide) (gcons rfl (gfk rfl rfl (gfr rfl gf0))) ?_
  exact g_sub [1, 2, 0] rfl (wfX6_breathes_l2 C hRf hRl gFU p0 p1 (0 : Int32) S hF)
/-! VowelChoirModel.beginsAnew()V -/
def fX6_beginsAnew_i107 (ih : (Option Nat) → (Int32) → gS → Option (Unit × gS)) (a0 : Option Nat) (a1 : Int32) (S : gS) : Option (Unit × gS) :=
  (oGetR [3] 12 a0 S).bind fun x1 =>
  (oLdI 0 x1 (1 : Int32) S).bind fun x2 =>
  (if x2 ≤ a1 then
  (oPut [3] 19 a0 (.int ((0 : Int32))) S).bind fun S3 =>
  (oPut [3] 33 a0 (.int ((0 : Int32))) S3).bind fun S4 =>
  (oPut [3] 34 a0 (.int ((0 : Int32))) S4).bind fun S5 =>
  (oPut [3] 35 a0 (.int ((0 : Int32))) S5).bind fun S6 =>
  (oPut [3] 36 a0 (.int ((0 : Int32))) S6).bind fun S7 =>
  some ((), S7)
  else
  (oGetR [3] 29 a0 S).bind fun x8 =>
  (oGetR [3] 16 a0 S).bind fun x9 =>
  (oLdR 5 x9 a1 S).bind fun x10 =>
  (oLdI 0 x10 (0 : Int32) S).bind fun x11 =>
  (oStI 0 x8 ((35 : Int32) + a1) x11 S).bind fun S12 =>
  ih a0 (a1 + (1 : Int32)) S12)
def fX6_beginsAnew_l107 : Nat → (Option Nat) → (Int32) → gS → Option (Unit × gS)
  | 0 => fun _ _ _ => none
  | n + 1 => fun a0 a1 S => fX6_beginsAnew_i107 (fX6_beginsAnew_l107 n) a0 a1 S
def fX6_beginsAnew_i78 (ih : (Option Nat) → (Int32) → gS → Option (Unit × gS)) (a0 : Option Nat) (a1 : Int32) (S : gS) : Option (Unit × gS) :=
  (if (57 : Int32) ≤ a1 then
  (oGetR [3] 29 a0 S).bind fun x1 =>
  gB (gV [3] a0 S (fX6_breathes a0 x1 S)) fun x2 S3 =>
  fX6_beginsAnew_l107 gFU a0 (0 : Int32) S3
  else
  (oGetR [3] 29 a0 S).bind fun x4 =>
  (oStI 0 x4 a1 (0 : Int32) S).bind fun S5 =>
  ih a0 (a1 + (1 : Int32)) S5)
def fX6_beginsAnew_l78 : Nat → (Option Nat) → (Int32) → gS → Option (Unit × gS)
  | 0 => fun _ _ _ => none
  | n + 1 => fun a0 a1 S => fX6_beginsAnew_i78 (fX6_beginsAnew_l78 n) a0 a1 S
def fX6_beginsAnew_i2 (ih : (Option Nat) → (Int32) → gS → Option (Unit × gS)) (a0 : Option Nat) (a1 : Int32) (S : gS) : Option (Unit × gS) :=
  (if (4 : Int32) ≤ a1 then
  (oGetR [3] 13 a0 S).bind fun x1 =>
  (oGetR [3] 14 a0 S).bind fun x2 =>
  (oGetR [3] 12 a0 S).bind fun x3 =>
  (oLdI 0 x3 (0 : Int32) S).bind fun x4 =>
  gB (fX6_lays x1 x2 x4 S) fun x5 S6 =>
  (oGetR [3] 15 a0 S6).bind fun x7 =>
  (oGetR [3] 16 a0 S6).bind fun x8 =>
  (oGetR [3] 12 a0 S6).bind fun x9 =>
  (oLdI 0 x9 (1 : Int32) S6).bind fun x10 =>
  gB (fX6_lays x7 x8 x10 S6) fun x11 S12 =>
  (oGetR [3] 17 a0 S12).bind fun x13 =>
  (oGetR [3] 18 a0 S12).bind fun x14 =>
  (oGetR [3] 12 a0 S12).bind fun x15 =>
  (oLdI 0 x15 (2 : Int32) S12).bind fun x16 =>
  gB (fX6_lays x13 x14 x16 S12) fun x17 S18 =>
  fX6_beginsAnew_l78 gFU a0 (0 : Int32) S18
  else
  (oGetR [3] 12 a0 S).bind fun x19 =>
  (oGetR [3] 11 a0 S).bind fun x20 =>
  (oLdI 0 x20 a1 S).bind fun x21 =>
  (oStI 0 x19 a1 x21 S).bind fun S22 =>
  ih a0 (a1 + (1 : Int32)) S22)
def fX6_beginsAnew_l2 : Nat → (Option Nat) → (Int32) → gS → Option (Unit × gS)
  | 0 => fun _ _ _ => none
  | n + 1 => fun a0 a1 S => fX6_beginsAnew_i2 (fX6_beginsAnew_l2 n) a0 a1 S
def fX6_beginsAnew (p0 : Option Nat) (S : gS) : Option (Unit × gS) :=
  fX6_beginsAnew_l2 gFU p0 (0 : Int32) S
theorem wfX6_beginsAnew_l107 {r : Unit} {S1 : gS} (C : gCx p l R s m args meth c D K RX6 cX6_beginsAnew 2 (Option.none : Option Jvm.ClassFile.FieldType) [] "beginsAnew" u0) (hRf : R.frames = 2) (hRl : R.locals = 124) : ∀ (n : Nat) (a0 : Option Nat) (a1 : Int32) (S : gS), fX6_beginsAnew_l107 n a0 a1 S = some (r, S1) → gW p l e R s m args below meth c D K 2 u0 (gEnd below args s D K u0 (.inl none) S1) S 107 [(0, va_rf a0), (1, .int a1)] [] := by
  intro n
  induction n with
  | zero => intro a0 a1 S hF; cases hF
  | succ n hih =>
    intro a0 a1 S hF
    have hF : fX6_beginsAnew_i107 (fX6_beginsAnew_l107 n) a0 a1 S = some (r, S1) := hF
    revert hF hih
    generalize fX6_beginsAnew_l107 n = ih
    intro hih hF
    unfold fX6_beginsAnew_i107 at hF
    refine g_iload_n C 1 dX6_beginsAnew_107 rfl ?_
    refine g_aload_n C 0 dX6_beginsAnew_108 rfl ?_
    refine g_getR C dX6_beginsAnew_109 fd_15 (Or.inl q2040) (Or.inl rfl) hF (fun x1 hF => ?_)
    refine g_iconst (v := (1 : Int32)) C dX6_beginsAnew_112 rfl ?_
    refine g_iald C dX6_beginsAnew_113 hF (fun x2 hF => ?_)
    refine g_icmp_ge C 140 dX6_beginsAnew_114 rfl hF (fun c hF => ?_) (fun c hF => ?_)
    · refine g_aload_n C 0 dX6_beginsAnew_140 rfl ?_
      refine g_iconst (v := (0 : Int32)) C dX6_beginsAnew_141 rfl ?_
      refine g_put C dX6_beginsAnew_142 fd_23 (Or.inl q2047) (Or.inl rfl) pf_0 rfl rfl hF (fun S3 hF => ?_)
      refine g_aload_n C 0 dX6_beginsAnew_145 rfl ?_
      refine g_iconst (v := (0 : Int32)) C dX6_beginsAnew_146 rfl ?_
      refine g_put C dX6_beginsAnew_147 fd_24 (Or.inl q2061) (Or.inl rfl) pf_0 rfl rfl hF (fun S4 hF => ?_)
      refine g_aload_n C 0 dX6_beginsAnew_150 rfl ?_
      refine g_iconst (v := (0 : Int32)) C dX6_beginsAnew_151 rfl ?_
      refine g_put C dX6_beginsAnew_152 fd_25 (Or.inl q2062) (Or.inl rfl) pf_0 rfl rfl hF (fun S5 hF => ?_)
      refine g_aload_n C 0 dX6_beginsAnew_155 rfl ?_
      refine g_iconst (v := (0 : Int32)) C dX6_beginsAnew_156 rfl ?_
      refine g_put C dX6_beginsAnew_157 fd_26 (Or.inl q2063) (Or.inl rfl) pf_0 rfl rfl hF (fun S6 hF => ?_)
      refine g_aload_n C 0 dX6_beginsAnew_160 rfl ?_
      refine g_iconst (v := (0 : Int32)) C dX6_beginsAnew_161 rfl ?_
      refine g_put C dX6_beginsAnew_162 fd_27 (Or.inl q2064) (Or.inl rfl) pf_0 rfl rfl hF (fun S7 hF => ?_)
      cases hF
      exact g_vret C dX6_beginsAnew_165 rfl rfl
    · refine g_aload_n C 0 dX6_beginsAnew_117 rfl ?_
      refine g_getR C dX6_beginsAnew_118 fd_22 (Or.inl q2057) (Or.inl rfl) hF (fun x8 hF => ?_)
      refine g_bipush (v := (35 : Int32)) C dX6_beginsAnew_121 rfl ?_
      refine g_iload_n C 1 dX6_beginsAnew_123 rfl ?_
      refine g_iadd C dX6_beginsAnew_124 ?_
      refine g_aload_n C 0 dX6_beginsAnew_125 rfl ?_
      refine g_getR C dX6_beginsAnew_126 fd_19 (Or.inl q2044) (Or.inl rfl) hF (fun x9 hF => ?_)
      refine g_iload_n C 1 dX6_beginsAnew_129 rfl ?_
      refine g_aald C (kd := 5) rfl dX6_beginsAnew_130 hF (fun x10 hF => ?_)
      refine g_iconst (v := (0 : Int32)) C dX6_beginsAnew_131 rfl ?_
      refine g_iald C dX6_beginsAnew_132 hF (fun x11 hF => ?_)
      refine g_iast C dX6_beginsAnew_133 hF (fun S12 hF => ?_)
      refine g_iinc (v := (1 : Int32)) C 1 dX6_beginsAnew_134 rfl rfl (by decide) (gcons rfl (gfr rfl (gfd rfl gf0))) ?_
      refine g_goto C 107 dX6_beginsAnew_137 rfl ?_
      exact g_sub [1, 0] rfl (hih a0 (a1 + (1 : Int32)) S12 hF)
theorem wfX6_beginsAnew_l78 {r : Unit} {S1 : gS} (C : gCx p l R s m args meth c D K RX6 cX6_beginsAnew 2 (Option.none : Option Jvm.ClassFile.FieldType) [] "beginsAnew" u0) (hRf : R.frames = 2) (hRl : R.locals = 124) : ∀ (n : Nat) (a0 : Option Nat) (a1 : Int32) (S : gS), fX6_beginsAnew_l78 n a0 a1 S = some (r, S1) → gW p l e R s m args below meth c D K 2 u0 (gEnd below args s D K u0 (.inl none) S1) S 78 [(0, va_rf a0), (1, .int a1)] [] := by
  intro n
  induction n with
  | zero => intro a0 a1 S hF; cases hF
  | succ n hih =>
    intro a0 a1 S hF
    have hF : fX6_beginsAnew_i78 (fX6_beginsAnew_l78 n) a0 a1 S = some (r, S1) := hF
    revert hF hih
    generalize fX6_beginsAnew_l78 n = ih
    intro hih hF
    unfold fX6_beginsAnew_i78 at hF
    refine g_iload_n C 1 dX6_beginsAnew_78 rfl ?_
    refine g_bipush (v := (57 : Int32)) C dX6_beginsAnew_79 rfl ?_
    refine g_icmp_ge C 97 dX6_beginsAnew_81 rfl hF (fun c hF => ?_) (fun c hF => ?_)
    · refine g_aload_n C 0 dX6_beginsAnew_97 rfl ?_
      refine g_aload_n C 0 dX6_beginsAnew_98 rfl ?_
      refine g_getR C dX6_beginsAnew_99 fd_22 (Or.inl q2057) (Or.inl rfl) hF (fun x1 hF => ?_)
      obtain ⟨x2, S3, h, hF⟩ := gB_some hF
      obtain ⟨hi, h⟩ := gV_some h
      refine g_after (g_runV (n := 1) C dX6_beginsAnew_102 rfl hi (mX6_breathes C.2.2.2.2.2.2.2.2.2.2.2.1 a0 x1 S _ _ h) (lw_V q2024 q2026 qs45 q124 q2027) (by decide +kernel) ⟨by rw [hRf]; exact Nat.le_of_ble_eq_true rfl, by rw [hRl]; exact Nat.le_of_ble_eq_true rfl⟩ rfl rfl (gle gc_0 (by decide))) ?_
      refine g_iconst (v := (0 : Int32)) C dX6_beginsAnew_105 rfl ?_
      refine g_istore_n C dX6_beginsAnew_106 (by decide) (gcons rfl (gfr rfl (gfd rfl gf0))) ?_
      exact g_sub [1, 0] rfl (wfX6_beginsAnew_l107 C hRf hRl gFU a0 (0 : Int32) S3 hF)
    · refine g_aload_n C 0 dX6_beginsAnew_84 rfl ?_
      refine g_getR C dX6_beginsAnew_85 fd_22 (Or.inl q2057) (Or.inl rfl) hF (fun x4 hF => ?_)
      refine g_iload_n C 1 dX6_beginsAnew_88 rfl ?_
      refine g_iconst (v := (0 : Int32)) C dX6_beginsAnew_89 rfl ?_
      refine g_iast C dX6_beginsAnew_90 hF (fun S5 hF => ?_)
      refine g_iinc (v := (1 : Int32)) C 1 dX6_beginsAnew_91 rfl rfl (by decide) (gcons rfl (gfr rfl (gfd rfl gf0))) ?_
      refine g_goto C 78 dX6_beginsAnew_94 rfl ?_
      exact g_sub [1, 0] rfl (hih a0 (a1 + (1 : Int32)) S5 hF)
theorem wfX6_beginsAnew_l2 {r : Unit} {S1 : gS} (C : gCx p l R s m args meth c D K RX6 cX6_beginsAnew 2 (Option.none : Option Jvm.ClassFile.FieldType) [] "beginsAnew" u0) (hRf : R.frames = 2) (hRl : R.locals = 124) : ∀ (n : Nat) (a0 : Option Nat) (a1 : Int32) (S : gS), fX6_beginsAnew_l2 n a0 a1 S = some (r, S1) → gW p l e R s m args below meth c D K 2 u0 (gEnd below args s D K u0 (.inl none) S1) S 2 [(0, va_rf a0), (1, .int a1)] [] := by
  intro n
  induction n with
  | zero => intro a0 a1 S hF; cases hF
  | succ n hih =>
    intro a0 a1 S hF
    have hF : fX6_beginsAnew_i2 (fX6_beginsAnew_l2 n) a0 a1 S = some (r, S1) := hF
    revert hF hih
    generalize fX6_beginsAnew_l2 n = ih
    intro hih hF
    unfold fX6_beginsAnew_i2 at hF
    refine g_iload_n C 1 dX6_beginsAnew_2 rfl ?_
    refine g_iconst (v := (4 : Int32)) C dX6_beginsAnew_3 rfl ?_
    refine g_icmp_ge C 25 dX6_beginsAnew_4 rfl hF (fun c hF => ?_) (fun c hF => ?_)
    · refine g_aload_n C 0 dX6_beginsAnew_25 rfl ?_
      refine g_getR C dX6_beginsAnew_26 fd_17 (Or.inl q2041) (Or.inl rfl) hF (fun x1 hF => ?_)
      refine g_aload_n C 0 dX6_beginsAnew_29 rfl ?_
      refine g_getR C dX6_beginsAnew_30 fd_16 (Or.inl q2042) (Or.inl rfl) hF (fun x2 hF => ?_)
      refine g_aload_n C 0 dX6_beginsAnew_33 rfl ?_
      refine g_getR C dX6_beginsAnew_34 fd_15 (Or.inl q2040) (Or.inl rfl) hF (fun x3 hF => ?_)
      refine g_iconst (v := (0 : Int32)) C dX6_beginsAnew_37 rfl ?_
      refine g_iald C dX6_beginsAnew_38 hF (fun x4 hF => ?_)
      obtain ⟨x5, S6, h, hF⟩ := gB_some hF
      refine g_after (g_runS (n := 3) C dX6_beginsAnew_39 (mX6_lays C.2.2.2.2.2.2.2.2.2.2.2.1 x1 x2 x4 S _ _ h) (lw_S q2021 q2022 q124 q2023) (by decide +kernel) ⟨by rw [hRf]; exact Nat.le_of_ble_eq_true rfl, by rw [hRl]; exact Nat.le_of_ble_eq_true rfl⟩ rfl rfl (gle gc_0 (by decide))) ?_
      refine g_aload_n C 0 dX6_beginsAnew_42 rfl ?_
      refine g_getR C dX6_beginsAnew_43 fd_18 (Or.inl q2043) (Or.inl rfl) hF (fun x7 hF => ?_)
      refine g_aload_n C 0 dX6_beginsAnew_46 rfl ?_
      refine g_getR C dX6_beginsAnew_47 fd_19 (Or.inl q2044) (Or.inl rfl) hF (fun x8 hF => ?_)
      refine g_aload_n C 0 dX6_beginsAnew_50 rfl ?_
      refine g_getR C dX6_beginsAnew_51 fd_15 (Or.inl q2040) (Or.inl rfl) hF (fun x9 hF => ?_)
      refine g_iconst (v := (1 : Int32)) C dX6_beginsAnew_54 rfl ?_
      refine g_iald C dX6_beginsAnew_55 hF (fun x10 hF => ?_)
      obtain ⟨x11, S12, h, hF⟩ := gB_some hF
      refine g_after (g_runS (n := 3) C dX6_beginsAnew_56 (mX6_lays C.2.2.2.2.2.2.2.2.2.2.2.1 x7 x8 x10 S6 _ _ h) (lw_S q2021 q2022 q124 q2023) (by decide +kernel) ⟨by rw [hRf]; exact Nat.le_of_ble_eq_true rfl, by rw [hRl]; exact Nat.le_of_ble_eq_true rfl⟩ rfl rfl (gle gc_0 (by decide))) ?_
      refine g_aload_n C 0 dX6_beginsAnew_59 rfl ?_
      refine g_getR C dX6_beginsAnew_60 fd_20 (Or.inl q2045) (Or.inl rfl) hF (fun x13 hF => ?_)
      refine g_aload_n C 0 dX6_beginsAnew_63 rfl ?_
      refine g_getR C dX6_beginsAnew_64 fd_21 (Or.inl q2046) (Or.inl rfl) hF (fun x14 hF => ?_)
      refine g_aload_n C 0 dX6_beginsAnew_67 rfl ?_
      refine g_getR C dX6_beginsAnew_68 fd_15 (Or.inl q2040) (Or.inl rfl) hF (fun x15 hF => ?_)
      refine g_iconst (v := (2 : Int32)) C dX6_beginsAnew_71 rfl ?_
      refine g_iald C dX6_beginsAnew_72 hF (fun x16 hF => ?_)
      obtain ⟨x17, S18, h, hF⟩ := gB_some hF
      refine g_after (g_runS (n := 3) C dX6_beginsAnew_73 (mX6_lays C.2.2.2.2.2.2.2.2.2.2.2.1 x13 x14 x16 S12 _ _ h) (lw_S q2021 q2022 q124 q2023) (by decide +kernel) ⟨by rw [hRf]; exact Nat.le_of_ble_eq_true rfl, by rw [hRl]; exact Nat.le_of_ble_eq_true rfl⟩ rfl rfl (gle gc_0 (by decide))) ?_
      refine g_iconst (v := (0 : Int32)) C dX6_beginsAnew_76 rfl ?_
      refine g_istore_n C dX6_beginsAnew_77 (by decide) (gcons rfl (gfr rfl (gfd rfl gf0))) ?_
      exact g_sub [1, 0] rfl (wfX6_beginsAnew_l78 C hRf hRl gFU a0 (0 : Int32) S18 hF)
    · refine g_aload_n C 0 dX6_beginsAnew_7 rfl ?_
      refine g_getR C dX6_beginsAnew_8 fd_15 (Or.inl q2040) (Or.inl rfl) hF (fun x19 hF => ?_)
      refine g_iload_n C 1 dX6_beginsAnew_11 rfl ?_
      refine g_aload_n C 0 dX6_beginsAnew_12 rfl ?_
      refine g_getR C dX6_beginsAnew_13 fd_14 (Or.inl q2039) (Or.inl rfl) hF (fun x20 hF => ?_)
      refine g_iload_n C 1 dX6_beginsAnew_16 rfl ?_
      refine g_iald C dX6_beginsAnew_17 hF (fun x21 hF => ?_)
      refine g_iast C dX6_beginsAnew_18 hF (fun S22 hF => ?_)
      refine g_iinc (v := (1 : Int32)) C 1 dX6_beginsAnew_19 rfl rfl (by decide) (gcons rfl (gfr rfl (gfd rfl gf0))) ?_
      refine g_goto C 2 dX6_beginsAnew_22 rfl ?_
      exact g_sub [1, 0] rfl (hih a0 (a1 + (1 : Int32)) S22 hF)
theorem mX6_beginsAnew {l : Launch} {D : gD} {K : gK} (hl : l.stackTraces = false) : ∀ (p0 : Option Nat) (S : gS) (r : Unit) (S1 : gS), fX6_beginsAnew p0 S = some (r, S1) → gMet l D K yX6_beginsAnew (ws_ yX6_beginsAnew cX6_beginsAnew 2 (Option.none : Option Jvm.ClassFile.FieldType)) 2 124 [va_rf p0] S (.inl none) S1 := by
  intro p0 S r S1 hF
  unfold fX6_beginsAnew at hF
  refine gMet.of hl (by decide +kernel) rfl (gle (lgs_r lgs_0) (by decide)) (fun p e s m below meth c R hRf hRl C _ => ?_)
  generalize hargs : ([va_rf p0] : List Value).toArray = args at C ⊢
  generalize hu0 : S.2.2.1 = u0 at C ⊢
  rw [show lv_args 0 [va_rf p0] = [(0, va_rf p0)] from (lva_r rfl lva_0)]
  refine g_iconst (v := (0 : Int32)) C dX6_beginsAnew_0 rfl ?_
  refine g_istore_n C dX6_beginsAnew_1 (by decide) (gcons rfl (gfr rfl gf0)) ?_
  exact g_sub [1, 0] rfl (wfX6_beginsAnew_l2 C hRf hRl gFU p0 (0 : Int32) S hF)
/-! VowelChoirModel.<init>()V -/
def fX6_init (p0 : Option Nat) (S : gS) : Option (Unit × gS) :=
  (if p0.isSome = true then
  (oPut [3] 3 p0 (.int ((-1 : Int32))) S).bind fun S1 =>
  gB (oNewA 0 (600 : Int32) S1) fun q2 S3 =>
  (oPut [3] 9 p0 (va_rf (some q2)) S3).bind fun S4 =>
  gB (oNewA 0 (2 : Int32) S4) fun q5 S6 =>
  (oPut [3] 10 p0 (va_rf (some q5)) S6).bind fun S7 =>
  gB (oNewA 0 (4 : Int32) S7) fun q8 S9 =>
  (oPut [3] 11 p0 (va_rf (some q8)) S9).bind fun S10 =>
  gB (oNewA 0 (4 : Int32) S10) fun q11 S12 =>
  (oPut [3] 12 p0 (va_rf (some q11)) S12).bind fun S13 =>
  gB (oNew2 (7 : Int32) (3 : Int32) S13) fun q14 S15 =>
  (oPut [3] 13 p0 (va_rf (some q14)) S15).bind fun S16 =>
  gB (oNew2 (7 : Int32) (3 : Int32) S16) fun q17 S18 =>
  (oPut [3] 14 p0 (va_rf (some q17)) S18).bind fun S19 =>
  gB (oNew2 (20 : Int32) (2 : Int32) S19) fun q20 S21 =>
  (oPut [3] 15 p0 (va_rf (some q20)) S21).bind fun S22 =>
  gB (oNew2 (20 : Int32) (2 : Int32) S22) fun q23 S24 =>
  (oPut [3] 16 p0 (va_rf (some q23)) S24).bind fun S25 =>
  gB (oNew2 (12 : Int32) (2 : Int32) S25) fun q26 S27 =>
  (oPut [3] 17 p0 (va_rf (some q26)) S27).bind fun S28 =>
  gB (oNew2 (12 : Int32) (2 : Int32) S28) fun q29 S30 =>
  (oPut [3] 18 p0 (va_rf (some q29)) S30).bind fun S31 =>
  gB (oNew2 (160 : Int32) (2 : Int32) S31) fun q32 S33 =>
  (oPut [3] 21 p0 (va_rf (some q32)) S33).bind fun S34 =>
  gB (oNew2 (160 : Int32) (2 : Int32) S34) fun q35 S36 =>
  (oPut [3] 22 p0 (va_rf (some q35)) S36).bind fun S37 =>
  gB (oNew2 (20 : Int32) (2 : Int32) S37) fun q38 S39 =>
  (oPut [3] 23 p0 (va_rf (some q38)) S39).bind fun S40 =>
  gB (oNew2 (20 : Int32) (2 : Int32) S40) fun q41 S42 =>
  (oPut [3] 24 p0 (va_rf (some q41)) S42).bind fun S43 =>
  gB (oNewA 0 (160 : Int32) S43) fun q44 S45 =>
  (oPut [3] 25 p0 (va_rf (some q44)) S45).bind fun S46 =>
  gB (oNewA 0 (8 : Int32) S46) fun q47 S48 =>
  (oPut [3] 26 p0 (va_rf (some q47)) S48).bind fun S49 =>
  gB (oNew2 (80 : Int32) (4 : Int32) S49) fun q50 S51 =>
  (oPut [3] 27 p0 (va_rf (some q50)) S51).bind fun S52 =>
  gB (oNewA 0 (57 : Int32) S52) fun q53 S54 =>
  (oPut [3] 29 p0 (va_rf (some q53)) S54).bind fun S55 =>
  gB (oNewA 0 (57 : Int32) S55) fun q56 S57 =>
  (oPut [3] 30 p0 (va_rf (some q56)) S57).bind fun S58 =>
  gB (oNew2 (16 : Int32) (57 : Int32) S58) fun q59 S60 =>
  (oPut [3] 31 p0 (va_rf (some q59)) S60).bind fun S61 =>
  gB (oNew2 (3 : Int32) (970 : Int32) S61) fun q62 S63 =>
  (oPut [3] 32 p0 (va_rf (some q62)) S63).bind fun S64 =>
  gB (oNewA 0 (7 : Int32) S64) fun q65 S66 =>
  (oPut [3] 41 p0 (va_rf (some q65)) S66).bind fun S67 =>
  gB (oNewA 0 (7 : Int32) S67) fun q68 S69 =>
  (oPut [3] 42 p0 (va_rf (some q68)) S69).bind fun S70 =>
  gB (oNewA 2 (14 : Int32) S70) fun q71 S72 =>
  (oPut [3] 44 p0 (va_rf (some q71)) S72).bind fun S73 =>
  gB (gV [3] p0 S73 (fX6_tellsNothing p0 S73)) fun x74 S75 =>
  gB (gV [3] p0 S75 (fX6_beginsAnew p0 S75)) fun x76 S77 =>
  some ((), S77)
  else none)
theorem mX6_init {l : Launch} {D : gD} {K : gK} (hl : l.stackTraces = false) : ∀ (p0 : Option Nat) (S : gS) (r : Unit) (S1 : gS), fX6_init p0 S = some (r, S1) → gMet l D K yX6_init (ws_ yX6_init cX6_init 1 (Option.none : Option Jvm.ClassFile.FieldType)) 3 145 [va_rf p0] S (.inl none) S1 := by
  intro p0 S r S1 hF
  unfold fX6_init at hF
  refine gMet.of hl (by decide +kernel) rfl (gle (lgs_r lgs_0) (by decide)) (fun p e s m below meth c R hRf hRl C _ => ?_)
  generalize hargs : ([va_rf p0] : List Value).toArray = args at C ⊢
  generalize hu0 : S.2.2.1 = u0 at C ⊢
  rw [show lv_args 0 [va_rf p0] = [(0, va_rf p0)] from (lva_r rfl lva_0)]
  refine g_aload_n C 0 dX6_init_0 rfl ?_
  obtain ⟨hi, hF⟩ := gIf hF
  refine g_objInit C dX6_init_1 hi q2010 q159 q160 ⟨by rw [hRf]; exact Nat.le_of_ble_eq_true rfl, by rw [hRl]; exact Nat.le_of_ble_eq_true rfl⟩ (gle gc_0 (by decide)) ?_
  refine g_aload_n C 0 dX6_init_4 rfl ?_
  refine g_iconst (v := (-1 : Int32)) C dX6_init_5 rfl ?_
  refine g_put C dX6_init_6 fd_28 (Or.inl q2031) (Or.inl rfl) pf_0 rfl rfl hF (fun S1 hF => ?_)
  refine g_aload_n C 0 dX6_init_9 rfl ?_
  refine g_sipush (v := (600 : Int32)) C dX6_init_10 rfl ?_
  refine g_newaI C dX6_init_13 q606 hF (fun q2 S3 hF => ?_)
  refine g_putF C rfl dX6_init_15 fd_29 q2037 pf_10 (nrR _ _ (by decide)) (fitR _ _ (by decide)) hF (fun S4 hF => ?_)
  refine g_aload_n C 0 dX6_init_18 rfl ?_
  refine g_iconst (v := (2 : Int32)) C dX6_init_19 rfl ?_
  refine g_newaI C dX6_init_20 q606 hF (fun q5 S6 hF => ?_)
  refine g_putF C rfl dX6_init_22 fd_30 q2038 pf_10 (nrR _ _ (by decide)) (fitR _ _ (by decide)) hF (fun S7 hF => ?_)
  refine g_aload_n C 0 dX6_init_25 rfl ?_
  refine g_iconst (v := (4 : Int32)) C dX6_init_26 rfl ?_
  refine g_newaI C dX6_init_27 q606 hF (fun q8 S9 hF => ?_)
  refine g_putF C rfl dX6_init_29 fd_14 q2039 pf_10 (nrR _ _ (by decide)) (fitR _ _ (by decide)) hF (fun S10 hF => ?_)
  refine g_aload_n C 0 dX6_init_32 rfl ?_
  refine g_iconst (v := (4 : Int32)) C dX6_init_33 rfl ?_
  refine g_newaI C dX6_init_34 q606 hF (fun q11 S12 hF => ?_)
  refine g_putF C rfl dX6_init_36 fd_15 q2040 pf_10 (nrR _ _ (by decide)) (fitR _ _ (by decide)) hF (fun S13 hF => ?_)
  refine g_aload_n C 0 dX6_init_39 rfl ?_
  refine g_bipush (v := (7 : Int32)) C dX6_init_40 rfl ?_
  refine g_iconst (v := (3 : Int32)) C dX6_init_42 rfl ?_
  refine g_new2 C dX6_init_43 q2011 q606 (by decide) hF (fun q14 S15 hF => ?_)
  refine g_putF C rfl dX6_init_47 fd_17 q2041 pf_11 (nrR _ _ (by decide)) (fitR _ _ (by decide)) hF (fun S16 hF => ?_)
  refine g_aload_n C 0 dX6_init_50 rfl ?_
  refine g_bipush (v := (7 : Int32)) C dX6_init_51 rfl ?_
  refine g_iconst (v := (3 : Int32)) C dX6_init_53 rfl ?_
  refine g_new2 C dX6_init_54 q2011 q606 (by decide) hF (fun q17 S18 hF => ?_)
  refine g_putF C rfl dX6_init_58 fd_16 q2042 pf_11 (nrR _ _ (by decide)) (fitR _ _ (by decide)) hF (fun S19 hF => ?_)
  refine g_aload_n C 0 dX6_init_61 rfl ?_
  refine g_bipush (v := (20 : Int32)) C dX6_init_62 rfl ?_
  refine g_iconst (v := (2 : Int32)) C dX6_init_64 rfl ?_
  refine g_new2 C dX6_init_65 q2011 q606 (by decide) hF (fun q20 S21 hF => ?_)
  refine g_putF C rfl dX6_init_69 fd_18 q2043 pf_11 (nrR _ _ (by decide)) (fitR _ _ (by decide)) hF (fun S22 hF => ?_)
  refine g_aload_n C 0 dX6_init_72 rfl ?_
  refine g_bipush (v := (20 : Int32)) C dX6_init_73 rfl ?_
  refine g_iconst (v := (2 : Int32)) C dX6_init_75 rfl ?_
  refine g_new2 C dX6_init_76 q2011 q606 (by decide) hF (fun q23 S24 hF => ?_)
  refine g_putF C rfl dX6_init_80 fd_19 q2044 pf_11 (nrR _ _ (by decide)) (fitR _ _ (by decide)) hF (fun S25 hF => ?_)
  refine g_aload_n C 0 dX6_init_83 rfl ?_
  refine g_bipush (v := (12 : Int32)) C dX6_init_84 rfl ?_
  refine g_iconst (v := (2 : Int32)) C dX6_init_86 rfl ?_
  refine g_new2 C dX6_init_87 q2011 q606 (by decide) hF (fun q26 S27 hF => ?_)
  refine g_putF C rfl dX6_init_91 fd_20 q2045 pf_11 (nrR _ _ (by decide)) (fitR _ _ (by decide)) hF (fun S28 hF => ?_)
  refine g_aload_n C 0 dX6_init_94 rfl ?_
  refine g_bipush (v := (12 : Int32)) C dX6_init_95 rfl ?_
  refine g_iconst (v := (2 : Int32)) C dX6_init_97 rfl ?_
  refine g_new2 C dX6_init_98 q2011 q606 (by decide) hF (fun q29 S30 hF => ?_)
  refine g_putF C rfl dX6_init_102 fd_21 q2046 pf_11 (nrR _ _ (by decide)) (fitR _ _ (by decide)) hF (fun S31 hF => ?_)
  refine g_aload_n C 0 dX6_init_105 rfl ?_
  refine g_sipush (v := (160 : Int32)) C dX6_init_106 rfl ?_
  refine g_iconst (v := (2 : Int32)) C dX6_init_109 rfl ?_
  refine g_new2 C dX6_init_110 q2011 q606 (by decide) hF (fun q32 S33 hF => ?_)
  refine g_putF C rfl dX6_init_114 fd_31 q2049 pf_11 (nrR _ _ (by decide)) (fitR _ _ (by decide)) hF (fun S34 hF => ?_)
  refine g_aload_n C 0 dX6_init_117 rfl ?_
  refine g_sipush (v := (160 : Int32)) C dX6_init_118 rfl ?_
  refine g_iconst (v := (2 : Int32)) C dX6_init_121 rfl ?_
  refine g_new2 C dX6_init_122 q2011 q606 (by decide) hF (fun q35 S36 hF => ?_)
  refine g_putF C rfl dX6_init_126 fd_32 q2050 pf_11 (nrR _ _ (by decide)) (fitR _ _ (by decide)) hF (fun S37 hF => ?_)
  refine g_aload_n C 0 dX6_init_129 rfl ?_
  refine g_bipush (v := (20 : Int32)) C dX6_init_130 rfl ?_
  refine g_iconst (v := (2 : Int32)) C dX6_init_132 rfl ?_
  refine g_new2 C dX6_init_133 q2011 q606 (by decide) hF (fun q38 S39 hF => ?_)
  refine g_putF C rfl dX6_init_137 fd_33 q2051 pf_11 (nrR _ _ (by decide)) (fitR _ _ (by decide)) hF (fun S40 hF => ?_)
  refine g_aload_n C 0 dX6_init_140 rfl ?_
  refine g_bipush (v := (20 : Int32)) C dX6_init_141 rfl ?_
  refine g_iconst (v := (2 : Int32)) C dX6_init_143 rfl ?_
  refine g_new2 C dX6_init_144 q2011 q606 (by decide) hF (fun q41 S42 hF => ?_)
  refine g_putF C rfl dX6_init_148 fd_34 q2052 pf_11 (nrR _ _ (by decide)) (fitR _ _ (by decide)) hF (fun S43 hF => ?_)
  refine g_aload_n C 0 dX6_init_151 rfl ?_
  refine g_sipush (v := (160 : Int32)) C dX6_init_152 rfl ?_
  refine g_newaI C dX6_init_155 q606 hF (fun q44 S45 hF => ?_)
  refine g_putF C rfl dX6_init_157 fd_35 q2053 pf_10 (nrR _ _ (by decide)) (fitR _ _ (by decide)) hF (fun S46 hF => ?_)
  refine g_aload_n C 0 dX6_init_160 rfl ?_
  refine g_bipush (v := (8 : Int32)) C dX6_init_161 rfl ?_
  refine g_newaI C dX6_init_163 q606 hF (fun q47 S48 hF => ?_)
  refine g_putF C rfl dX6_init_165 fd_36 q2054 pf_10 (nrR _ _ (by decide)) (fitR _ _ (by decide)) hF (fun S49 hF => ?_)
  refine g_aload_n C 0 dX6_init_168 rfl ?_
  refine g_bipush (v := (80 : Int32)) C dX6_init_169 rfl ?_
  refine g_iconst (v := (4 : Int32)) C dX6_init_171 rfl ?_
  refine g_new2 C dX6_init_172 q2011 q606 (by decide) hF (fun q50 S51 hF => ?_)
  refine g_putF C rfl dX6_init_176 fd_37 q2055 pf_11 (nrR _ _ (by decide)) (fitR _ _ (by decide)) hF (fun S52 hF => ?_)
  refine g_aload_n C 0 dX6_init_179 rfl ?_
  refine g_bipush (v := (57 : Int32)) C dX6_init_180 rfl ?_
  refine g_newaI C dX6_init_182 q606 hF (fun q53 S54 hF => ?_)
  refine g_putF C rfl dX6_init_184 fd_22 q2057 pf_10 (nrR _ _ (by decide)) (fitR _ _ (by decide)) hF (fun S55 hF => ?_)
  refine g_aload_n C 0 dX6_init_187 rfl ?_
  refine g_bipush (v := (57 : Int32)) C dX6_init_188 rfl ?_
  refine g_newaI C dX6_init_190 q606 hF (fun q56 S57 hF => ?_)
  refine g_putF C rfl dX6_init_192 fd_38 q2058 pf_10 (nrR _ _ (by decide)) (fitR _ _ (by decide)) hF (fun S58 hF => ?_)
  refine g_aload_n C 0 dX6_init_195 rfl ?_
  refine g_bipush (v := (16 : Int32)) C dX6_init_196 rfl ?_
  refine g_bipush (v := (57 : Int32)) C dX6_init_198 rfl ?_
  refine g_new2 C dX6_init_200 q2011 q606 (by decide) hF (fun q59 S60 hF => ?_)
  refine g_putF C rfl dX6_init_204 fd_39 q2059 pf_11 (nrR _ _ (by decide)) (fitR _ _ (by decide)) hF (fun S61 hF => ?_)
  refine g_aload_n C 0 dX6_init_207 rfl ?_
  refine g_iconst (v := (3 : Int32)) C dX6_init_208 rfl ?_
  refine g_sipush (v := (970 : Int32)) C dX6_init_209 rfl ?_
  refine g_new2 C dX6_init_212 q2011 q606 (by decide) hF (fun q62 S63 hF => ?_)
  refine g_putF C rfl dX6_init_216 fd_40 q2060 pf_11 (nrR _ _ (by decide)) (fitR _ _ (by decide)) hF (fun S64 hF => ?_)
  refine g_aload_n C 0 dX6_init_219 rfl ?_
  refine g_bipush (v := (7 : Int32)) C dX6_init_220 rfl ?_
  refine g_newaI C dX6_init_222 q606 hF (fun q65 S66 hF => ?_)
  refine g_putF C rfl dX6_init_224 fd_41 q2069 pf_10 (nrR _ _ (by decide)) (fitR _ _ (by decide)) hF (fun S67 hF => ?_)
  refine g_aload_n C 0 dX6_init_227 rfl ?_
  refine g_bipush (v := (7 : Int32)) C dX6_init_228 rfl ?_
  refine g_newaI C dX6_init_230 q606 hF (fun q68 S69 hF => ?_)
  refine g_putF C rfl dX6_init_232 fd_42 q2070 pf_10 (nrR _ _ (by decide)) (fitR _ _ (by decide)) hF (fun S70 hF => ?_)
  refine g_aload_n C 0 dX6_init_235 rfl ?_
  refine g_bipush (v := (14 : Int32)) C dX6_init_236 rfl ?_
  refine g_newaL C dX6_init_238 q2167 hF (fun q71 S72 hF => ?_)
  refine g_putF C rfl dX6_init_240 fd_43 q2072 pf_9 (nrR _ _ (by decide)) (fitR _ _ (by decide)) hF (fun S73 hF => ?_)
  refine g_aload_n C 0 dX6_init_243 rfl ?_
  obtain ⟨x74, S75, h, hF⟩ := gB_some hF
  obtain ⟨hi, h⟩ := gV_some h
  refine g_after (g_runV (n := 0) C dX6_init_244 rfl hi (mX6_tellsNothing C.2.2.2.2.2.2.2.2.2.2.2.1 p0 S73 _ _ h) (lw_V q2013 q2015 qs43 q124 q2016) (by decide +kernel) ⟨by rw [hRf]; exact Nat.le_of_ble_eq_true rfl, by rw [hRl]; exact Nat.le_of_ble_eq_true rfl⟩ rfl rfl (gle gc_0 (by decide))) ?_
  refine g_aload_n C 0 dX6_init_247 rfl ?_
  obtain ⟨x76, S77, h, hF⟩ := gB_some hF
  obtain ⟨hi, h⟩ := gV_some h
  refine g_after (g_runV (n := 0) C dX6_init_248 rfl hi (mX6_beginsAnew C.2.2.2.2.2.2.2.2.2.2.2.1 p0 S75 _ _ h) (lw_V q2017 q2019 qs44 q124 q2020) (by decide +kernel) ⟨by rw [hRf]; exact Nat.le_of_ble_eq_true rfl, by rw [hRl]; exact Nat.le_of_ble_eq_true rfl⟩ rfl rfl (gle gc_0 (by decide))) ?_
  cases hF
  exact g_vret C dX6_init_251 rfl rfl
/-! VowelChoirModel.thrown()I -/
def fX6_thrown (p0 : Option Nat) (S : gS) : Option Int32 :=
  (oGetI [3] 0 p0 S).bind fun x1 =>
  some x1
theorem mX6_thrown {l : Launch} {D : gD} {K : gK} (hl : l.stackTraces = false) : ∀ (p0 : Option Nat) (S : gS) (r : Int32), fX6_thrown p0 S = some r → gMet l D K yX6_thrown (ws_ yX6_thrown cX6_thrown 1 (Option.some Jvm.ClassFile.FieldType.int)) 1 100 [va_rf p0] S (.inl (some (.int r))) S := by
  intro p0 S r hF
  unfold fX6_thrown at hF
  refine gMet.of hl (by decide +kernel) rfl (gle (lgs_r lgs_0) (by decide)) (fun p e s m below meth c R hRf hRl C _ => ?_)
  generalize hargs : ([va_rf p0] : List Value).toArray = args at C ⊢
  generalize hu0 : S.2.2.1 = u0 at C ⊢
  rw [show lv_args 0 [va_rf p0] = [(0, va_rf p0)] from (lva_r rfl lva_0)]
  refine g_aload_n C 0 dX6_thrown_0 rfl ?_
  refine g_getI C dX6_thrown_1 fd_44 (Or.inl q2028) (Or.inl rfl) hF (fun x1 hF => ?_)
  cases hF
  exact g_iret C dX6_thrown_4 rfl rfl
/-! VowelChoirModel.feed(IIIII)I -/
def fX6_feed_j76 (k23 : (Option Nat) → (Int32) → (Int32) → (Int32) → (Int32) → (Int32) → (Int32) → gS → Option (Int32 × gS)) (a0 : Option Nat) (a1 : Int32) (a2 : Int32) (a3 : Int32) (a4 : Int32) (a5 : Int32) (a6 : Int32) (t0 : Int32) (S : gS) : Option (Int32 × gS) :=
  (oGetR [3] 9 a0 S).bind fun x1 =>
  (oGetI [3] 1 a0 S).bind fun x2 =>
  if (4 : Int32) = 0 then none else
  (oStI 0 x1 x2 ((t0 >>> (((24 : Int32) - ((8 : Int32) * (a6 - a6 / (4 : Int32) * (4 : Int32)))) &&& 31)) &&& (255 : Int32)) S).bind fun S3 =>
  (oGetI [3] 1 a0 S3).bind fun x4 =>
  (oPut [3] 1 a0 (.int (x4 + (1 : Int32))) S3).bind fun S5 =>
  k23 a0 a1 a2 a3 a4 a5 (a6 + (1 : Int32)) S5
def fX6_feed_i23 (ih : (Option Nat) → (Int32) → (Int32) → (Int32) → (Int32) → (Int32) → (Int32) → gS → Option (Int32 × gS)) (a0 : Option Nat) (a1 : Int32) (a2 : Int32) (a3 : Int32) (a4 : Int32) (a5 : Int32) (a6 : Int32) (S : gS) : Option (Int32 × gS) :=
  (if (20 : Int32) ≤ a6 then
  (oGetI [3] 1 a0 S).bind fun x1 =>
  some (x1, S)
  else
  (if (4 : Int32) ≤ a6 then
  (if (8 : Int32) ≤ a6 then
  (if (12 : Int32) ≤ a6 then
  (if (16 : Int32) ≤ a6 then
  fX6_feed_j76 ih a0 a1 a2 a3 a4 a5 a6 a5 S
  else
  fX6_feed_j76 ih a0 a1 a2 a3 a4 a5 a6 a4 S)
  else
  fX6_feed_j76 ih a0 a1 a2 a3 a4 a5 a6 a3 S)
  else
  fX6_feed_j76 ih a0 a1 a2 a3 a4 a5 a6 a2 S)
  else
  fX6_feed_j76 ih a0 a1 a2 a3 a4 a5 a6 a1 S))
def fX6_feed_l23 : Nat → (Option Nat) → (Int32) → (Int32) → (Int32) → (Int32) → (Int32) → (Int32) → gS → Option (Int32 × gS)
  | 0 => fun _ _ _ _ _ _ _ _ => none
  | n + 1 => fun a0 a1 a2 a3 a4 a5 a6 S => fX6_feed_i23 (fX6_feed_l23 n) a0 a1 a2 a3 a4 a5 a6 S
def fX6_feed (p0 : Option Nat) (p1 : Int32) (p2 : Int32) (p3 : Int32) (p4 : Int32) (p5 : Int32) (S : gS) : Option (Int32 × gS) :=
  (oPut [3] 0 p0 (.int ((0 : Int32))) S).bind fun S1 =>
  (oGetI [3] 1 p0 S1).bind fun x2 =>
  (if (x2 + (20 : Int32)) ≤ (600 : Int32) then
  fX6_feed_l23 gFU p0 p1 p2 p3 p4 p5 (0 : Int32) S1
  else
  some ((-1 : Int32), S1))
theorem wfX6_feed_j76 {r : Int32} {S1 : gS} (C : gCx p l R s m args meth c D K RX6 cX6_feed 8 (Option.some Jvm.ClassFile.FieldType.int) [] "feed" u0) (hRf : R.frames = 1) (hRl : R.locals = 100) (k23 : (Option Nat) → (Int32) → (Int32) → (Int32) → (Int32) → (Int32) → (Int32) → gS → Option (Int32 × gS)) (hk23 : ∀ (a0 : Option Nat) (a1 : Int32) (a2 : Int32) (a3 : Int32) (a4 : Int32) (a5 : Int32) (a6 : Int32) (S : gS), k23 a0 a1 a2 a3 a4 a5 a6 S = some (r, S1) → gW p l e R s m args below meth c D K 8 u0 (gEnd below args s D K u0 (.inl (some (.int r))) S1) S 23 [(0, va_rf a0), (1, .int a1), (2, .int a2), (3, .int a3), (4, .int a4), (5, .int a5), (6, .int a6)] []) : ∀ (a0 : Option Nat) (a1 : Int32) (a2 : Int32) (a3 : Int32) (a4 : Int32) (a5 : Int32) (a6 : Int32) (t0 : Int32) (S : gS), fX6_feed_j76 k23 a0 a1 a2 a3 a4 a5 a6 t0 S = some (r, S1) → gW p l e R s m args below meth c D K 8 u0 (gEnd below args s D K u0 (.inl (some (.int r))) S1) S 76 [(0, va_rf a0), (1, .int a1), (2, .int a2), (3, .int a3), (4, .int a4), (5, .int a5), (6, .int a6)] [.int t0] := by
  intro a0 a1 a2 a3 a4 a5 a6 t0 S hF
  unfold fX6_feed_j76 at hF
  refine g_istore C dX6_feed_76 (by decide) rfl ?_
  refine g_aload_n C 1 dX6_feed_78 rfl ?_
  refine g_getR C dX6_feed_79 fd_29 (Or.inl q2037) (Or.inl rfl) hF (fun x1 hF => ?_)
  refine g_aload_n C 1 dX6_feed_82 rfl ?_
  refine g_getI C dX6_feed_83 fd_45 (Or.inl q2029) (Or.inl rfl) hF (fun x2 hF => ?_)
  refine g_iload C 0 dX6_feed_86 rfl ?_
  refine g_bipush (v := (24 : Int32)) C dX6_feed_88 rfl ?_
  refine g_bipush (v := (8 : Int32)) C dX6_feed_90 rfl ?_
  refine g_iload C 7 dX6_feed_92 rfl ?_
  refine g_iconst (v := (4 : Int32)) C dX6_feed_94 rfl ?_
  refine g_irem C dX6_feed_95 hF (fun hF => ?_)
  refine g_imul C dX6_feed_96 ?_
  refine g_isub C dX6_feed_97 ?_
  refine g_ishr C dX6_feed_98 ?_
  refine g_sipush (v := (255 : Int32)) C dX6_feed_99 rfl ?_
  refine g_iand C dX6_feed_102 ?_
  refine g_iast C dX6_feed_103 hF (fun S3 hF => ?_)
  refine g_aload_n C 1 dX6_feed_104 rfl ?_
  refine g_dup C dX6_feed_105 (g_cr _) ?_
  refine g_getI C dX6_feed_106 fd_45 (Or.inl q2029) (Or.inl rfl) hF (fun x4 hF => ?_)
  refine g_iconst (v := (1 : Int32)) C dX6_feed_109 rfl ?_
  refine g_iadd C dX6_feed_110 ?_
  refine g_put C dX6_feed_111 fd_45 (Or.inl q2029) (Or.inl rfl) pf_0 rfl rfl hF (fun S5 hF => ?_)
  refine g_iinc (v := (1 : Int32)) C 7 dX6_feed_114 rfl rfl (by decide) rfl ?_
  refine g_goto C 23 dX6_feed_117 rfl ?_
  exact g_sub [2, 3, 4, 5, 6, 7, 0] rfl (hk23 a0 a1 a2 a3 a4 a5 (a6 + (1 : Int32)) S5 hF)
theorem wfX6_feed_l23 {r : Int32} {S1 : gS} (C : gCx p l R s m args meth c D K RX6 cX6_feed 8 (Option.some Jvm.ClassFile.FieldType.int) [] "feed" u0) (hRf : R.frames = 1) (hRl : R.locals = 100) : ∀ (n : Nat) (a0 : Option Nat) (a1 : Int32) (a2 : Int32) (a3 : Int32) (a4 : Int32) (a5 : Int32) (a6 : Int32) (S : gS), fX6_feed_l23 n a0 a1 a2 a3 a4 a5 a6 S = some (r, S1) → gW p l e R s m args below meth c D K 8 u0 (gEnd below args s D K u0 (.inl (some (.int r))) S1) S 23 [(0, va_rf a0), (1, .int a1), (2, .int a2), (3, .int a3), (4, .int a4), (5, .int a5), (6, .int a6)] [] := by
  intro n
  induction n with
  | zero => intro a0 a1 a2 a3 a4 a5 a6 S hF; cases hF
  | succ n hih =>
    intro a0 a1 a2 a3 a4 a5 a6 S hF
    have hF : fX6_feed_i23 (fX6_feed_l23 n) a0 a1 a2 a3 a4 a5 a6 S = some (r, S1) := hF
    revert hF hih
    generalize fX6_feed_l23 n = ih
    intro hih hF
    unfold fX6_feed_i23 at hF
    refine g_iload C 6 dX6_feed_23 rfl ?_
    refine g_bipush (v := (20 : Int32)) C dX6_feed_25 rfl ?_
    refine g_icmp_ge C 120 dX6_feed_27 rfl hF (fun c hF => ?_) (fun c hF => ?_)
    · refine g_aload_n C 0 dX6_feed_120 rfl ?_
      refine g_getI C dX6_feed_121 fd_45 (Or.inl q2029) (Or.inl rfl) hF (fun x1 hF => ?_)
      cases hF
      exact g_iret C dX6_feed_124 rfl rfl
    · refine g_iload C 6 dX6_feed_30 rfl ?_
      refine g_iconst (v := (4 : Int32)) C dX6_feed_32 rfl ?_
      refine g_icmp_ge C 40 dX6_feed_33 rfl hF (fun c hF => ?_) (fun c hF => ?_)
      · refine g_iload C 6 dX6_feed_40 rfl ?_
        refine g_bipush (v := (8 : Int32)) C dX6_feed_42 rfl ?_
        refine g_icmp_ge C 51 dX6_feed_44 rfl hF (fun c hF => ?_) (fun c hF => ?_)
        · refine g_iload C 6 dX6_feed_51 rfl ?_
          refine g_bipush (v := (12 : Int32)) C dX6_feed_53 rfl ?_
          refine g_icmp_ge C 62 dX6_feed_55 rfl hF (fun c hF => ?_) (fun c hF => ?_)
          · refine g_iload C 6 dX6_feed_62 rfl ?_
            refine g_bipush (v := (16 : Int32)) C dX6_feed_64 rfl ?_
            refine g_icmp_ge C 74 dX6_feed_66 rfl hF (fun c hF => ?_) (fun c hF => ?_)
            · refine g_iload C 5 dX6_feed_74 rfl ?_
              exact g_sub [0, 1, 2, 3, 4, 5, 6] rfl (wfX6_feed_j76 C hRf hRl (ih) (hih) a0 a1 a2 a3 a4 a5 a6 a5 S hF)
            · refine g_iload C 4 dX6_feed_69 rfl ?_
              refine g_goto C 76 dX6_feed_71 rfl ?_
              exact g_sub [0, 1, 2, 3, 4, 5, 6] rfl (wfX6_feed_j76 C hRf hRl (ih) (hih) a0 a1 a2 a3 a4 a5 a6 a4 S hF)
          · refine g_iload_n C 3 dX6_feed_58 rfl ?_
            refine g_goto C 76 dX6_feed_59 rfl ?_
            exact g_sub [0, 1, 2, 3, 4, 5, 6] rfl (wfX6_feed_j76 C hRf hRl (ih) (hih) a0 a1 a2 a3 a4 a5 a6 a3 S hF)
        · refine g_iload_n C 2 dX6_feed_47 rfl ?_
          refine g_goto C 76 dX6_feed_48 rfl ?_
          exact g_sub [0, 1, 2, 3, 4, 5, 6] rfl (wfX6_feed_j76 C hRf hRl (ih) (hih) a0 a1 a2 a3 a4 a5 a6 a2 S hF)
      · refine g_iload_n C 1 dX6_feed_36 rfl ?_
        refine g_goto C 76 dX6_feed_37 rfl ?_
        exact g_sub [0, 1, 2, 3, 4, 5, 6] rfl (wfX6_feed_j76 C hRf hRl (ih) (hih) a0 a1 a2 a3 a4 a5 a6 a1 S hF)
theorem mX6_feed {l : Launch} {D : gD} {K : gK} (hl : l.stackTraces = false) : ∀ (p0 : Option Nat) (p1 : Int32) (p2 : Int32) (p3 : Int32) (p4 : Int32) (p5 : Int32) (S : gS) (r : Int32) (S1 : gS), fX6_feed p0 p1 p2 p3 p4 p5 S = some (r, S1) → gMet l D K yX6_feed (ws_ yX6_feed cX6_feed 8 (Option.some Jvm.ClassFile.FieldType.int)) 1 100 [va_rf p0, .int p1, .int p2, .int p3, .int p4, .int p5] S (.inl (some (.int r))) S1 := by
  intro p0 p1 p2 p3 p4 p5 S r S1 hF
  unfold fX6_feed at hF
  refine gMet.of hl (by decide +kernel) rfl (gle (lgs_r (lgs_i (lgs_i (lgs_i (lgs_i (lgs_i lgs_0)))))) (by decide)) (fun p e s m below meth c R hRf hRl C _ => ?_)
  generalize hargs : ([va_rf p0, .int p1, .int p2, .int p3, .int p4, .int p5] : List Value).toArray = args at C ⊢
  generalize hu0 : S.2.2.1 = u0 at C ⊢
  rw [show lv_args 0 [va_rf p0, .int p1, .int p2, .int p3, .int p4, .int p5] = [(0, va_rf p0), (1, .int p1), (2, .int p2), (3, .int p3), (4, .int p4), (5, .int p5)] from (lva_r rfl (lva_i rfl (lva_i rfl (lva_i rfl (lva_i rfl (lva_i rfl lva_0))))))]
  refine g_aload_n C 0 dX6_feed_0 rfl ?_
  refine g_iconst (v := (0 : Int32)) C dX6_feed_1 rfl ?_
  refine g_put C dX6_feed_2 fd_44 (Or.inl q2028) (Or.inl rfl) pf_0 rfl rfl hF (fun S1 hF => ?_)
  refine g_aload_n C 0 dX6_feed_5 rfl ?_
  refine g_getI C dX6_feed_6 fd_45 (Or.inl q2029) (Or.inl rfl) hF (fun x2 hF => ?_)
  refine g_bipush (v := (20 : Int32)) C dX6_feed_9 rfl ?_
  refine g_iadd C dX6_feed_11 ?_
  refine g_sipush (v := (600 : Int32)) C dX6_feed_12 rfl ?_
  refine g_icmp_le C 20 dX6_feed_15 rfl hF (fun c hF => ?_) (fun c hF => ?_)
  · refine g_iconst (v := (0 : Int32)) C dX6_feed_20 rfl ?_
    refine g_istore C dX6_feed_21 (by decide) rfl ?_
    exact g_sub [1, 2, 3, 4, 5, 6, 0] rfl (wfX6_feed_l23 C hRf hRl gFU p0 p1 p2 p3 p4 p5 (0 : Int32) S1 hF)
  · refine g_iconst (v := (-1 : Int32)) C dX6_feed_18 rfl ?_
    cases hF
    exact g_iret C dX6_feed_19 rfl rfl
/-! VowelChoirModel.in(III)Z -/
def fX6_in (p0 : Int32) (p1 : Int32) (p2 : Int32) : Int32 :=
  (if p0 < p1 then
  (0 : Int32)
  else
  (if p2 < p0 then
  (0 : Int32)
  else
  (1 : Int32)))
theorem mX6_in {l : Launch} {D : gD} {K : gK} (hl : l.stackTraces = false) : ∀ (p0 : Int32) (p1 : Int32) (p2 : Int32) (S : gS) (r : Int32), fX6_in p0 p1 p2 = r → gMet l D K yX6_in (ws_ yX6_in cX6_in 3 (Option.some Jvm.ClassFile.FieldType.boolean)) 1 100 [.int p0, .int p1, .int p2] S (.inl (some (.int r))) S := by
  intro p0 p1 p2 S r hF
  unfold fX6_in at hF
  refine gMet.of hl (by decide +kernel) rfl (gle (lgs_i (lgs_i (lgs_i lgs_0))) (by decide)) (fun p e s m below meth c R hRf hRl C _ => ?_)
  generalize hargs : ([.int p0, .int p1, .int p2] : List Value).toArray = args at C ⊢
  generalize hu0 : S.2.2.1 = u0 at C ⊢
  rw [show lv_args 0 [.int p0, .int p1, .int p2] = [(0, .int p0), (1, .int p1), (2, .int p2)] from (lva_i rfl (lva_i rfl (lva_i rfl lva_0)))]
  refine g_iload_n C 0 dX6_in_0 rfl ?_
  refine g_iload_n C 1 dX6_in_1 rfl ?_
  refine g_icmp_lt C 14 dX6_in_2 rfl hF (fun c hF => ?_) (fun c hF => ?_)
  · refine g_iconst (v := (0 : Int32)) C dX6_in_14 rfl ?_
    subst hF
    exact g_zret (ty := .boolean) C (rfl) dX6_in_15 rfl rfl
  · refine g_iload_n C 0 dX6_in_5 rfl ?_
    refine g_iload_n C 2 dX6_in_6 rfl ?_
    refine g_icmp_gt C 14 dX6_in_7 rfl hF (fun c hF => ?_) (fun c hF => ?_)
    · refine g_iconst (v := (0 : Int32)) C dX6_in_14 rfl ?_
      subst hF
      exact g_zret (ty := .boolean) C (rfl) dX6_in_15 rfl rfl
    · refine g_iconst (v := (1 : Int32)) C dX6_in_10 rfl ?_
      refine g_goto C 15 dX6_in_11 rfl ?_
      subst hF
      exact g_zret (ty := .boolean) C (rfl) dX6_in_15 rfl rfl
/-! VowelChoirModel.bad(ZII)Z -/
def fX6_bad_j26 (a0 : Option Nat) (S : gS) : Option (Int32 × gS) :=
  (oGetI [3] 0 a0 S).bind fun x1 =>
  (if x1 = 0 then
  some ((0 : Int32), S)
  else
  some ((1 : Int32), S))
def fX6_bad (p0 : Option Nat) (p1 : Int32) (p2 : Int32) (p3 : Int32) (S : gS) : Option (Int32 × gS) :=
  (if p1 = 0 then
  fX6_bad_j26 p0 S
  else
  (oGetI [3] 0 p0 S).bind fun x1 =>
  (if x1 = 0 then
  (oPut [3] 0 p0 (.int p2) S).bind fun S2 =>
  (oGetR [3] 10 p0 S2).bind fun x3 =>
  (oLdI 0 x3 p3 S2).bind fun x4 =>
  (oStI 0 x3 p3 (x4 + (1 : Int32)) S2).bind fun S5 =>
  fX6_bad_j26 p0 S5
  else
  fX6_bad_j26 p0 S))
theorem wfX6_bad_j26 {r : Int32} {S1 : gS} (C : gCx p l R s m args meth c D K RX6 cX6_bad 4 (Option.some Jvm.ClassFile.FieldType.boolean) [] "bad" u0) (hRf : R.frames = 1) (hRl : R.locals = 100) : ∀ (a0 : Option Nat) (S : gS), fX6_bad_j26 a0 S = some (r, S1) → gW p l e R s m args below meth c D K 4 u0 (gEnd below args s D K u0 (.inl (some (.int r))) S1) S 26 [(0, va_rf a0)] [] := by
  intro a0 S hF
  unfold fX6_bad_j26 at hF
  refine g_aload_n C 0 dX6_bad_26 rfl ?_
  refine g_getI C dX6_bad_27 fd_44 (Or.inl q2028) (Or.inl rfl) hF (fun x1 hF => ?_)
  refine g_if_eq C 37 dX6_bad_30 rfl hF (fun c hF => ?_) (fun c hF => ?_)
  · refine g_iconst (v := (0 : Int32)) C dX6_bad_37 rfl ?_
    cases hF
    exact g_zret (ty := .boolean) C (rfl) dX6_bad_38 rfl rfl
  · refine g_iconst (v := (1 : Int32)) C dX6_bad_33 rfl ?_
    refine g_goto C 38 dX6_bad_34 rfl ?_
    cases hF
    exact g_zret (ty := .boolean) C (rfl) dX6_bad_38 rfl rfl
theorem mX6_bad {l : Launch} {D : gD} {K : gK} (hl : l.stackTraces = false) : ∀ (p0 : Option Nat) (p1 : Int32) (p2 : Int32) (p3 : Int32) (S : gS) (r : Int32) (S1 : gS), fX6_bad p0 p1 p2 p3 S = some (r, S1) → gMet l D K yX6_bad (ws_ yX6_bad cX6_bad 4 (Option.some Jvm.ClassFile.FieldType.boolean)) 1 100 [va_rf p0, .int p1, .int p2, .int p3] S (.inl (some (.int r))) S1 := by
  intro p0 p1 p2 p3 S r S1 hF
  unfold fX6_bad at hF
  refine gMet.of hl (by decide +kernel) rfl (gle (lgs_r (lgs_i (lgs_i (lgs_i lgs_0)))) (by decide)) (fun p e s m below meth c R hRf hRl C _ => ?_)
  generalize hargs : ([va_rf p0, .int p1, .int p2, .int p3] : List Value).toArray = args at C ⊢
  generalize hu0 : S.2.2.1 = u0 at C ⊢
  rw [show lv_args 0 [va_rf p0, .int p1, .int p2, .int p3] = [(0, va_rf p0), (1, .int p1), (2, .int p2), (3, .int p3)] from (lva_r rfl (lva_i rfl (lva_i rfl (lva_i rfl lva_0))))]
  refine g_iload_n C 1 dX6_bad_0 rfl ?_
  refine g_if_eq C 26 dX6_bad_1 rfl hF (fun c hF => ?_) (fun c hF => ?_)
  · exact g_sub [0] rfl (wfX6_bad_j26 C hRf hRl p0 S hF)
  · refine g_aload_n C 0 dX6_bad_4 rfl ?_
    refine g_getI C dX6_bad_5 fd_44 (Or.inl q2028) (Or.inl rfl) hF (fun x1 hF => ?_)
    refine g_if_ne C 26 dX6_bad_8 rfl hF (fun c hF => ?_) (fun c hF => ?_)
    · exact g_sub [0] rfl (wfX6_bad_j26 C hRf hRl p0 S hF)
    · refine g_aload_n C 0 dX6_bad_11 rfl ?_
      refine g_iload_n C 2 dX6_bad_12 rfl ?_
      refine g_put C dX6_bad_13 fd_44 (Or.inl q2028) (Or.inl rfl) pf_0 rfl rfl hF (fun S2 hF => ?_)
      refine g_aload_n C 0 dX6_bad_16 rfl ?_
      refine g_getR C dX6_bad_17 fd_30 (Or.inl q2038) (Or.inl rfl) hF (fun x3 hF => ?_)
      refine g_iload_n C 3 dX6_bad_20 rfl ?_
      refine g_dup2 C dX6_bad_21 rfl (g_cr _) ?_
      refine g_iald C dX6_bad_22 hF (fun x4 hF => ?_)
      refine g_iconst (v := (1 : Int32)) C dX6_bad_23 rfl ?_
      refine g_iadd C dX6_bad_24 ?_
      refine g_iast C dX6_bad_25 hF (fun S5 hF => ?_)
      exact g_sub [0] rfl (wfX6_bad_j26 C hRf hRl p0 S5 hF)
/-! VowelChoirModel.byteAt(I)I -/
def fX6_byteAt (p0 : Option Nat) (p1 : Int32) (S : gS) : Option Int32 :=
  (oGetI [3] 2 p0 S).bind fun x1 =>
  (if p1 < x1 then
  (oGetR [3] 9 p0 S).bind fun x2 =>
  (oLdI 0 x2 p1 S).bind fun x3 =>
  some x3
  else
  some (-1 : Int32))
theorem mX6_byteAt {l : Launch} {D : gD} {K : gK} (hl : l.stackTraces = false) : ∀ (p0 : Option Nat) (p1 : Int32) (S : gS) (r : Int32), fX6_byteAt p0 p1 S = some r → gMet l D K yX6_byteAt (ws_ yX6_byteAt cX6_byteAt 2 (Option.some Jvm.ClassFile.FieldType.int)) 1 100 [va_rf p0, .int p1] S (.inl (some (.int r))) S := by
  intro p0 p1 S r hF
  unfold fX6_byteAt at hF
  refine gMet.of hl (by decide +kernel) rfl (gle (lgs_r (lgs_i lgs_0)) (by decide)) (fun p e s m below meth c R hRf hRl C _ => ?_)
  generalize hargs : ([va_rf p0, .int p1] : List Value).toArray = args at C ⊢
  generalize hu0 : S.2.2.1 = u0 at C ⊢
  rw [show lv_args 0 [va_rf p0, .int p1] = [(0, va_rf p0), (1, .int p1)] from (lva_r rfl (lva_i rfl lva_0))]
  refine g_iload_n C 1 dX6_byteAt_0 rfl ?_
  refine g_aload_n C 0 dX6_byteAt_1 rfl ?_
  refine g_getI C dX6_byteAt_2 fd_46 (Or.inl q2030) (Or.inl rfl) hF (fun x1 hF => ?_)
  refine g_icmp_lt C 12 dX6_byteAt_5 rfl hF (fun c hF => ?_) (fun c hF => ?_)
  · refine g_aload_n C 0 dX6_byteAt_12 rfl ?_
    refine g_getR C dX6_byteAt_13 fd_29 (Or.inl q2037) (Or.inl rfl) hF (fun x2 hF => ?_)
    refine g_iload_n C 1 dX6_byteAt_16 rfl ?_
    refine g_iald C dX6_byteAt_17 hF (fun x3 hF => ?_)
    cases hF
    exact g_iret C dX6_byteAt_18 rfl rfl
  · refine g_iconst (v := (-1 : Int32)) C dX6_byteAt_8 rfl ?_
    refine g_goto C 18 dX6_byteAt_9 rfl ?_
    cases hF
    exact g_iret C dX6_byteAt_18 rfl rfl
/-! VowelChoirModel.blanks()V -/
def fX6_blanks_i0 (ih : (Option Nat) → gS → Option (Unit × gS)) (a0 : Option Nat) (S : gS) : Option (Unit × gS) :=
  (oGetI [3] 4 a0 S).bind fun x1 =>
  (gV [3] a0 S (fX6_byteAt a0 x1 S)).bind fun x2 =>
  (if x2 = (32 : Int32) then
  (oGetI [3] 4 a0 S).bind fun x3 =>
  (oPut [3] 4 a0 (.int (x3 + (1 : Int32))) S).bind fun S4 =>
  ih a0 S4
  else
  some ((), S))
def fX6_blanks_l0 : Nat → (Option Nat) → gS → Option (Unit × gS)
  | 0 => fun _ _ => none
  | n + 1 => fun a0 S => fX6_blanks_i0 (fX6_blanks_l0 n) a0 S
def fX6_blanks (p0 : Option Nat) (S : gS) : Option (Unit × gS) :=
  fX6_blanks_l0 gFU p0 S
theorem wfX6_blanks_l0 {r : Unit} {S1 : gS} (C : gCx p l R s m args meth c D K RX6 cX6_blanks 1 (Option.none : Option Jvm.ClassFile.FieldType) [] "blanks" u0) (hRf : R.frames = 2) (hRl : R.locals = 121) : ∀ (n : Nat) (a0 : Option Nat) (S : gS), fX6_blanks_l0 n a0 S = some (r, S1) → gW p l e R s m args below meth c D K 1 u0 (gEnd below args s D K u0 (.inl none) S1) S 0 [(0, va_rf a0)] [] := by
  intro n
  induction n with
  | zero => intro a0 S hF; cases hF
  | succ n hih =>
    intro a0 S hF
    have hF : fX6_blanks_i0 (fX6_blanks_l0 n) a0 S = some (r, S1) := hF
    revert hF hih
    generalize fX6_blanks_l0 n = ih
    intro hih hF
    unfold fX6_blanks_i0 at hF
    refine g_aload_n C 0 dX6_blanks_0 rfl ?_
    refine g_aload_n C 0 dX6_blanks_1 rfl ?_
    refine g_getI C dX6_blanks_2 fd_47 (Or.inl q2032) (Or.inl rfl) hF (fun x1 hF => ?_)
    obtain ⟨x2, h, hF⟩ := oB hF
    obtain ⟨hi, h⟩ := gV_some h
    refine g_after (g_runV (n := 1) C dX6_blanks_5 rfl hi (mX6_byteAt C.2.2.2.2.2.2.2.2.2.2.2.1 a0 x1 S _ h) (lw_V q2195 q2197 qs49 q124 q2198) (by decide +kernel) ⟨by rw [hRf]; exact Nat.le_of_ble_eq_true rfl, by rw [hRl]; exact Nat.le_of_ble_eq_true rfl⟩ rfl rfl (gle gc_0 (by decide))) ?_
    refine g_bipush (v := (32 : Int32)) C dX6_blanks_8 rfl ?_
    refine g_icmp_ne C 26 dX6_blanks_10 rfl hF (fun c hF => ?_) (fun c hF => ?_)
    · cases hF
      exact g_vret C dX6_blanks_26 rfl rfl
    · refine g_aload_n C 0 dX6_blanks_13 rfl ?_
      refine g_dup C dX6_blanks_14 (g_cr _) ?_
      refine g_getI C dX6_blanks_15 fd_47 (Or.inl q2032) (Or.inl rfl) hF (fun x3 hF => ?_)
      refine g_iconst (v := (1 : Int32)) C dX6_blanks_18 rfl ?_
      refine g_iadd C dX6_blanks_19 ?_
      refine g_put C dX6_blanks_20 fd_47 (Or.inl q2032) (Or.inl rfl) pf_0 rfl rfl hF (fun S4 hF => ?_)
      refine g_goto C 0 dX6_blanks_23 rfl ?_
      exact g_sub [0] rfl (hih a0 S4 hF)
theorem mX6_blanks {l : Launch} {D : gD} {K : gK} (hl : l.stackTraces = false) : ∀ (p0 : Option Nat) (S : gS) (r : Unit) (S1 : gS), fX6_blanks p0 S = some (r, S1) → gMet l D K yX6_blanks (ws_ yX6_blanks cX6_blanks 1 (Option.none : Option Jvm.ClassFile.FieldType)) 2 121 [va_rf p0] S (.inl none) S1 := by
  intro p0 S r S1 hF
  unfold fX6_blanks at hF
  refine gMet.of hl (by decide +kernel) rfl (gle (lgs_r lgs_0) (by decide)) (fun p e s m below meth c R hRf hRl C _ => ?_)
  generalize hargs : ([va_rf p0] : List Value).toArray = args at C ⊢
  generalize hu0 : S.2.2.1 = u0 at C ⊢
  rw [show lv_args 0 [va_rf p0] = [(0, va_rf p0)] from (lva_r rfl lva_0)]
  exact g_sub [0] rfl (wfX6_blanks_l0 C hRf hRl gFU p0 S hF)
/-! VowelChoirModel.starts(I)V -/
def fX6_starts (p0 : Option Nat) (p1 : Int32) (S : gS) : Option (Unit × gS) :=
  (oPut [3] 1 p0 (.int ((0 : Int32))) S).bind fun S1 =>
  (oPut [3] 2 p0 (.int p1) S1).bind fun S2 =>
  (oPut [3] 4 p0 (.int ((0 : Int32))) S2).bind fun S3 =>
  (oPut [3] 5 p0 (.int ((0 : Int32))) S3).bind fun S4 =>
  (oPut [3] 6 p0 (.int ((-1 : Int32))) S4).bind fun S5 =>
  (oPut [3] 7 p0 (.int ((0 : Int32))) S5).bind fun S6 =>
  (oPut [3] 8 p0 (.int ((0 : Int32))) S6).bind fun S7 =>
  gB (gV [3] p0 S7 (fX6_blanks p0 S7)) fun x8 S9 =>
  some ((), S9)
theorem mX6_starts {l : Launch} {D : gD} {K : gK} (hl : l.stackTraces = false) : ∀ (p0 : Option Nat) (p1 : Int32) (S : gS) (r : Unit) (S1 : gS), fX6_starts p0 p1 S = some (r, S1) → gMet l D K yX6_starts (ws_ yX6_starts cX6_starts 2 (Option.none : Option Jvm.ClassFile.FieldType)) 3 141 [va_rf p0, .int p1] S (.inl none) S1 := by
  intro p0 p1 S r S1 hF
  unfold fX6_starts at hF
  refine gMet.of hl (by decide +kernel) rfl (gle (lgs_r (lgs_i lgs_0)) (by decide)) (fun p e s m below meth c R hRf hRl C _ => ?_)
  generalize hargs : ([va_rf p0, .int p1] : List Value).toArray = args at C ⊢
  generalize hu0 : S.2.2.1 = u0 at C ⊢
  rw [show lv_args 0 [va_rf p0, .int p1] = [(0, va_rf p0), (1, .int p1)] from (lva_r rfl (lva_i rfl lva_0))]
  refine g_aload_n C 0 dX6_starts_0 rfl ?_
  refine g_iconst (v := (0 : Int32)) C dX6_starts_1 rfl ?_
  refine g_put C dX6_starts_2 fd_45 (Or.inl q2029) (Or.inl rfl) pf_0 rfl rfl hF (fun S1 hF => ?_)
  refine g_aload_n C 0 dX6_starts_5 rfl ?_
  refine g_iload_n C 1 dX6_starts_6 rfl ?_
  refine g_put C dX6_starts_7 fd_46 (Or.inl q2030) (Or.inl rfl) pf_0 rfl rfl hF (fun S2 hF => ?_)
  refine g_aload_n C 0 dX6_starts_10 rfl ?_
  refine g_iconst (v := (0 : Int32)) C dX6_starts_11 rfl ?_
  refine g_put C dX6_starts_12 fd_47 (Or.inl q2032) (Or.inl rfl) pf_0 rfl rfl hF (fun S3 hF => ?_)
  refine g_aload_n C 0 dX6_starts_15 rfl ?_
  refine g_iconst (v := (0 : Int32)) C dX6_starts_16 rfl ?_
  refine g_put C dX6_starts_17 fd_48 (Or.inl q2033) (Or.inl rfl) pf_0 rfl rfl hF (fun S4 hF => ?_)
  refine g_aload_n C 0 dX6_starts_20 rfl ?_
  refine g_iconst (v := (-1 : Int32)) C dX6_starts_21 rfl ?_
  refine g_put C dX6_starts_22 fd_49 (Or.inl q2034) (Or.inl rfl) pf_0 rfl rfl hF (fun S5 hF => ?_)
  refine g_aload_n C 0 dX6_starts_25 rfl ?_
  refine g_iconst (v := (0 : Int32)) C dX6_starts_26 rfl ?_
  refine g_put C dX6_starts_27 fd_50 (Or.inl q2035) (Or.inl rfl) pf_0 rfl rfl hF (fun S6 hF => ?_)
  refine g_aload_n C 0 dX6_starts_30 rfl ?_
  refine g_iconst (v := (0 : Int32)) C dX6_starts_31 rfl ?_
  refine g_put C dX6_starts_32 fd_51 (Or.inl q2036) (Or.inl rfl) pf_0 rfl rfl hF (fun S7 hF => ?_)
  refine g_aload_n C 0 dX6_starts_35 rfl ?_
  obtain ⟨x8, S9, h, hF⟩ := gB_some hF
  obtain ⟨hi, h⟩ := gV_some h
  refine g_after (g_runV (n := 0) C dX6_starts_36 rfl hi (mX6_blanks C.2.2.2.2.2.2.2.2.2.2.2.1 p0 S7 _ _ h) (lw_V q2191 q2193 qs48 q124 q2194) (by decide +kernel) ⟨by rw [hRf]; exact Nat.le_of_ble_eq_true rfl, by rw [hRl]; exact Nat.le_of_ble_eq_true rfl⟩ rfl rfl (gle gc_0 (by decide))) ?_
  cases hF
  exact g_vret C dX6_starts_39 rfl rfl
/-! VowelChoirModel.isSmall(I)Z -/
def fX6_isSmall (p0 : Int32) : Int32 :=
  (if p0 < (97 : Int32) then
  (0 : Int32)
  else
  (if (122 : Int32) < p0 then
  (0 : Int32)
  else
  (1 : Int32)))
theorem mX6_isSmall {l : Launch} {D : gD} {K : gK} (hl : l.stackTraces = false) : ∀ (p0 : Int32) (S : gS) (r : Int32), fX6_isSmall p0 = r → gMet l D K yX6_isSmall (ws_ yX6_isSmall cX6_isSmall 1 (Option.some Jvm.ClassFile.FieldType.boolean)) 1 100 [.int p0] S (.inl (some (.int r))) S := by
  intro p0 S r hF
  unfold fX6_isSmall at hF
  refine gMet.of hl (by decide +kernel) rfl (gle (lgs_i lgs_0) (by decide)) (fun p e s m below meth c R hRf hRl C _ => ?_)
  generalize hargs : ([.int p0] : List Value).toArray = args at C ⊢
  generalize hu0 : S.2.2.1 = u0 at C ⊢
  rw [show lv_args 0 [.int p0] = [(0, .int p0)] from (lva_i rfl lva_0)]
  refine g_iload_n C 0 dX6_isSmall_0 rfl ?_
  refine g_bipush (v := (97 : Int32)) C dX6_isSmall_1 rfl ?_
  refine g_icmp_lt C 16 dX6_isSmall_3 rfl hF (fun c hF => ?_) (fun c hF => ?_)
  · refine g_iconst (v := (0 : Int32)) C dX6_isSmall_16 rfl ?_
    subst hF
    exact g_zret (ty := .boolean) C (rfl) dX6_isSmall_17 rfl rfl
  · refine g_iload_n C 0 dX6_isSmall_6 rfl ?_
    refine g_bipush (v := (122 : Int32)) C dX6_isSmall_7 rfl ?_
    refine g_icmp_gt C 16 dX6_isSmall_9 rfl hF (fun c hF => ?_) (fun c hF => ?_)
    · refine g_iconst (v := (0 : Int32)) C dX6_isSmall_16 rfl ?_
      subst hF
      exact g_zret (ty := .boolean) C (rfl) dX6_isSmall_17 rfl rfl
    · refine g_iconst (v := (1 : Int32)) C dX6_isSmall_12 rfl ?_
      refine g_goto C 17 dX6_isSmall_13 rfl ?_
      subst hF
      exact g_zret (ty := .boolean) C (rfl) dX6_isSmall_17 rfl rfl
/-! VowelChoirModel.wordHere()I -/
def fX6_wordHere_i8 (ih : (Option Nat) → (Int32) → (Int32) → gS → Option (Int32 × gS)) (a0 : Option Nat) (a1 : Int32) (a2 : Int32) (S : gS) : Option (Int32 × gS) :=
  (oGetI [3] 4 a0 S).bind fun x1 =>
  (gV [3] a0 S (fX6_byteAt a0 (x1 + a2) S)).bind fun x2 =>
  (if (fX6_isSmall x2) = 0 then
  (if a2 ≤ (6 : Int32) then
  some (a1, S)
  else
  some ((-1 : Int32), S))
  else
  (if (6 : Int32) ≤ a2 then
  ih a0 a1 (a2 + (1 : Int32)) S
  else
  (oGetI [3] 4 a0 S).bind fun x3 =>
  (gV [3] a0 S (fX6_byteAt a0 (x3 + a2) S)).bind fun x4 =>
  ih a0 (((((27 : Int32) * a1) + x4) - (97 : Int32)) + (1 : Int32)) (a2 + (1 : Int32)) S))
def fX6_wordHere_l8 : Nat → (Option Nat) → (Int32) → (Int32) → gS → Option (Int32 × gS)
  | 0 => fun _ _ _ _ => none
  | n + 1 => fun a0 a1 a2 S => fX6_wordHere_i8 (fX6_wordHere_l8 n) a0 a1 a2 S
def fX6_wordHere (p0 : Option Nat) (S : gS) : Option (Int32 × gS) :=
  gB (gV [3] p0 S (fX6_blanks p0 S)) fun x1 S2 =>
  fX6_wordHere_l8 gFU p0 (0 : Int32) (0 : Int32) S2
theorem wfX6_wordHere_l8 {r : Int32} {S1 : gS} (C : gCx p l R s m args meth c D K RX6 cX6_wordHere 3 (Option.some Jvm.ClassFile.FieldType.int) [] "wordHere" u0) (hRf : R.frames = 3) (hRl : R.locals = 141) : ∀ (n : Nat) (a0 : Option Nat) (a1 : Int32) (a2 : Int32) (S : gS), fX6_wordHere_l8 n a0 a1 a2 S = some (r, S1) → gW p l e R s m args below meth c D K 3 u0 (gEnd below args s D K u0 (.inl (some (.int r))) S1) S 8 [(0, va_rf a0), (1, .int a1), (2, .int a2)] [] := by
  intro n
  induction n with
  | zero => intro a0 a1 a2 S hF; cases hF
  | succ n hih =>
    intro a0 a1 a2 S hF
    have hF : fX6_wordHere_i8 (fX6_wordHere_l8 n) a0 a1 a2 S = some (r, S1) := hF
    revert hF hih
    generalize fX6_wordHere_l8 n = ih
    intro hih hF
    unfold fX6_wordHere_i8 at hF
    refine g_aload_n C 0 dX6_wordHere_8 rfl ?_
    refine g_aload_n C 0 dX6_wordHere_9 rfl ?_
    refine g_getI C dX6_wordHere_10 fd_47 (Or.inl q2032) (Or.inl rfl) hF (fun x1 hF => ?_)
    refine g_iload_n C 2 dX6_wordHere_13 rfl ?_
    refine g_iadd C dX6_wordHere_14 ?_
    obtain ⟨x2, h, hF⟩ := oB hF
    obtain ⟨hi, h⟩ := gV_some h
    refine g_after (g_runV (n := 1) C dX6_wordHere_15 rfl hi (mX6_byteAt C.2.2.2.2.2.2.2.2.2.2.2.1 a0 (x1 + a2) S _ h) (lw_V q2195 q2197 qs49 q124 q2198) (by decide +kernel) ⟨by rw [hRf]; exact Nat.le_of_ble_eq_true rfl, by rw [hRl]; exact Nat.le_of_ble_eq_true rfl⟩ rfl rfl (gle gc_0 (by decide))) ?_
    refine g_after (g_runS (n := 1) C dX6_wordHere_18 (mX6_isSmall C.2.2.2.2.2.2.2.2.2.2.2.1 x2 S _ rfl) (lw_S q2215 q2216 q124 q2217) (by decide +kernel) ⟨by rw [hRf]; exact Nat.le_of_ble_eq_true rfl, by rw [hRl]; exact Nat.le_of_ble_eq_true rfl⟩ rfl rfl (gle gc_0 (by decide))) ?_
    refine g_if_eq C 61 dX6_wordHere_21 rfl hF (fun c hF => ?_) (fun c hF => ?_)
    · refine g_iload_n C 2 dX6_wordHere_61 rfl ?_
      refine g_bipush (v := (6 : Int32)) C dX6_wordHere_62 rfl ?_
      refine g_icmp_le C 71 dX6_wordHere_64 rfl hF (fun c hF => ?_) (fun c hF => ?_)
      · refine g_iload_n C 1 dX6_wordHere_71 rfl ?_
        cases hF
        exact g_iret C dX6_wordHere_72 rfl rfl
      · refine g_iconst (v := (-1 : Int32)) C dX6_wordHere_67 rfl ?_
        refine g_goto C 72 dX6_wordHere_68 rfl ?_
        cases hF
        exact g_iret C dX6_wordHere_72 rfl rfl
    · refine g_iload_n C 2 dX6_wordHere_24 rfl ?_
      refine g_bipush (v := (6 : Int32)) C dX6_wordHere_25 rfl ?_
      refine g_icmp_ge C 53 dX6_wordHere_27 rfl hF (fun c hF => ?_) (fun c hF => ?_)
      · refine g_iload_n C 1 dX6_wordHere_53 rfl ?_
        refine g_istore_n C dX6_wordHere_54 (by decide) (gcons rfl (gfr rfl (gfd rfl (gfk rfl rfl gf0)))) ?_
        refine g_iinc (v := (1 : Int32)) C 2 dX6_wordHere_55 rfl rfl (by decide) rfl ?_
        refine g_goto C 8 dX6_wordHere_58 rfl ?_
        exact g_sub [2, 1, 0] rfl (hih a0 a1 (a2 + (1 : Int32)) S hF)
      · refine g_bipush (v := (27 : Int32)) C dX6_wordHere_30 rfl ?_
        refine g_iload_n C 1 dX6_wordHere_32 rfl ?_
        refine g_imul C dX6_wordHere_33 ?_
        refine g_aload_n C 0 dX6_wordHere_34 rfl ?_
        refine g_aload_n C 0 dX6_wordHere_35 rfl ?_
        refine g_getI C dX6_wordHere_36 fd_47 (Or.inl q2032) (Or.inl rfl) hF (fun x3 hF => ?_)
        refine g_iload_n C 2 dX6_wordHere_39 rfl ?_
        refine g_iadd C dX6_wordHere_40 ?_
        obtain ⟨x4, h, hF⟩ := oB hF
        obtain ⟨hi, h⟩ := gV_some h
        refine g_after (g_runV (n := 1) C dX6_wordHere_41 rfl hi (mX6_byteAt C.2.2.2.2.2.2.2.2.2.2.2.1 a0 (x3 + a2) S _ h) (lw_V q2195 q2197 qs49 q124 q2198) (by decide +kernel) ⟨by rw [hRf]; exact Nat.le_of_ble_eq_true rfl, by rw [hRl]; exact Nat.le_of_ble_eq_true rfl⟩ rfl rfl (gle (gc_i gc_0) (by decide))) ?_
        refine g_iadd C dX6_wordHere_44 ?_
        refine g_bipush (v := (97 : Int32)) C dX6_wordHere_45 rfl ?_
        refine g_isub C dX6_wordHere_47 ?_
        refine g_iconst (v := (1 : Int32)) C dX6_wordHere_48 rfl ?_
        refine g_iadd C dX6_wordHere_49 ?_
        refine g_goto C 54 dX6_wordHere_50 rfl ?_
        refine g_istore_n C dX6_wordHere_54 (by decide) (gcons rfl (gfr rfl (gfd rfl (gfk rfl rfl gf0)))) ?_
        refine g_iinc (v := (1 : Int32)) C 2 dX6_wordHere_55 rfl rfl (by decide) rfl ?_
        refine g_goto C 8 dX6_wordHere_58 rfl ?_
        exact g_sub [2, 1, 0] rfl (hih a0 (((((27 : Int32) * a1) + x4) - (97 : Int32)) + (1 : Int32)) (a2 + (1 : Int32)) S hF)
theorem mX6_wordHere {l : Launch} {D : gD} {K : gK} (hl : l.stackTraces = false) : ∀ (p0 : Option Nat) (S : gS) (r : Int32) (S1 : gS), fX6_wordHere p0 S = some (r, S1) → gMet l D K yX6_wordHere (ws_ yX6_wordHere cX6_wordHere 3 (Option.some Jvm.ClassFile.FieldType.int)) 3 141 [va_rf p0] S (.inl (some (.int r))) S1 := by
  intro p0 S r S1 hF
  unfold fX6_wordHere at hF
  refine gMet.of hl (by decide +kernel) rfl (gle (lgs_r lgs_0) (by decide)) (fun p e s m below meth c R hRf hRl C _ => ?_)
  generalize hargs : ([va_rf p0] : List Value).toArray = args at C ⊢
  generalize hu0 : S.2.2.1 = u0 at C ⊢
  rw [show lv_args 0 [va_rf p0] = [(0, va_rf p0)] from (lva_r rfl lva_0)]
  refine g_aload_n C 0 dX6_wordHere_0 rfl ?_
  obtain ⟨x1, S2, h, hF⟩ := gB_some hF
  obtain ⟨hi, h⟩ := gV_some h
  refine g_after (g_runV (n := 0) C dX6_wordHere_1 rfl hi (mX6_blanks C.2.2.2.2.2.2.2.2.2.2.2.1 p0 S _ _ h) (lw_V q2191 q2193 qs48 q124 q2194) (by decide +kernel) ⟨by rw [hRf]; exact Nat.le_of_ble_eq_true rfl, by rw [hRl]; exact Nat.le_of_ble_eq_true rfl⟩ rfl rfl (gle gc_0 (by decide))) ?_
  refine g_iconst (v := (0 : Int32)) C dX6_wordHere_4 rfl ?_
  refine g_istore_n C dX6_wordHere_5 (by decide) (gcons rfl (gfr rfl gf0)) ?_
  refine g_iconst (v := (0 : Int32)) C dX6_wordHere_6 rfl ?_
  refine g_istore_n C dX6_wordHere_7 (by decide) rfl ?_
  exact g_sub [2, 1, 0] rfl (wfX6_wordHere_l8 C hRf hRl gFU p0 (0 : Int32) (0 : Int32) S2 hF)
/-! VowelChoirModel.six(IIIIII)I -/
def fX6_six_j49 (a5 : Int32) (t0 : Int32) : Int32 :=
  (if a5 = 0 then
  t0
  else
  ((27 : Int32) * t0) + a5)
def fX6_six_j29 (a4 : Int32) (a5 : Int32) (t0 : Int32) : Int32 :=
  (if a4 = 0 then
  fX6_six_j49 a5 t0
  else
  fX6_six_j49 a5 (((27 : Int32) * t0) + a4))
def fX6_six (p0 : Int32) (p1 : Int32) (p2 : Int32) (p3 : Int32) (p4 : Int32) (p5 : Int32) : Int32 :=
  (if p3 = 0 then
  fX6_six_j29 p4 p5 (((27 : Int32) * (((27 : Int32) * p0) + p1)) + p2)
  else
  fX6_six_j29 p4 p5 (((27 : Int32) * (((27 : Int32) * (((27 : Int32) * p0) + p1)) + p2)) + p3))
theorem wfX6_six_j49 {r : Int32} (C : gCx p l R s m args meth c D K RX6 cX6_six 7 (Option.some Jvm.ClassFile.FieldType.int) [] "six" u0) (hRf : R.frames = 1) (hRl : R.locals = 100) : ∀ (a5 : Int32) (t0 : Int32) (S : gS), fX6_six_j49 a5 t0 = r → gW p l e R s m args below meth c D K 7 u0 (gEnd below args s D K u0 (.inl (some (.int r))) S) S 49 [(5, .int a5)] [.int t0] := by
  intro a5 t0 S hF
  unfold fX6_six_j49 at hF
  refine g_istore C dX6_six_49 (by decide) rfl ?_
  refine g_iload C 1 dX6_six_51 rfl ?_
  refine g_if_ne C 61 dX6_six_53 rfl hF (fun c hF => ?_) (fun c hF => ?_)
  · refine g_bipush (v := (27 : Int32)) C dX6_six_61 rfl ?_
    refine g_iload C 0 dX6_six_63 rfl ?_
    refine g_imul C dX6_six_65 ?_
    refine g_iload C 1 dX6_six_66 rfl ?_
    refine g_iadd C dX6_six_68 ?_
    subst hF
    exact g_iret C dX6_six_69 rfl rfl
  · refine g_iload C 0 dX6_six_56 rfl ?_
    refine g_goto C 69 dX6_six_58 rfl ?_
    subst hF
    exact g_iret C dX6_six_69 rfl rfl
theorem wfX6_six_j29 {r : Int32} (C : gCx p l R s m args meth c D K RX6 cX6_six 7 (Option.some Jvm.ClassFile.FieldType.int) [] "six" u0) (hRf : R.frames = 1) (hRl : R.locals = 100) : ∀ (a4 : Int32) (a5 : Int32) (t0 : Int32) (S : gS), fX6_six_j29 a4 a5 t0 = r → gW p l e R s m args below meth c D K 7 u0 (gEnd below args s D K u0 (.inl (some (.int r))) S) S 29 [(4, .int a4), (5, .int a5)] [.int t0] := by
  intro a4 a5 t0 S hF
  unfold fX6_six_j29 at hF
  refine g_istore C dX6_six_29 (by decide) rfl ?_
  refine g_iload C 1 dX6_six_31 rfl ?_
  refine g_if_ne C 41 dX6_six_33 rfl hF (fun c hF => ?_) (fun c hF => ?_)
  · refine g_bipush (v := (27 : Int32)) C dX6_six_41 rfl ?_
    refine g_iload C 0 dX6_six_43 rfl ?_
    refine g_imul C dX6_six_45 ?_
    refine g_iload C 1 dX6_six_46 rfl ?_
    refine g_iadd C dX6_six_48 ?_
    exact g_sub [2] rfl (wfX6_six_j49 C hRf hRl a5 (((27 : Int32) * t0) + a4) S hF)
  · refine g_iload C 0 dX6_six_36 rfl ?_
    refine g_goto C 49 dX6_six_38 rfl ?_
    exact g_sub [2] rfl (wfX6_six_j49 C hRf hRl a5 t0 S hF)
theorem mX6_six {l : Launch} {D : gD} {K : gK} (hl : l.stackTraces = false) : ∀ (p0 : Int32) (p1 : Int32) (p2 : Int32) (p3 : Int32) (p4 : Int32) (p5 : Int32) (S : gS) (r : Int32), fX6_six p0 p1 p2 p3 p4 p5 = r → gMet l D K yX6_six (ws_ yX6_six cX6_six 7 (Option.some Jvm.ClassFile.FieldType.int)) 1 100 [.int p0, .int p1, .int p2, .int p3, .int p4, .int p5] S (.inl (some (.int r))) S := by
  intro p0 p1 p2 p3 p4 p5 S r hF
  unfold fX6_six at hF
  refine gMet.of hl (by decide +kernel) rfl (gle (lgs_i (lgs_i (lgs_i (lgs_i (lgs_i (lgs_i lgs_0)))))) (by decide)) (fun p e s m below meth c R hRf hRl C _ => ?_)
  generalize hargs : ([.int p0, .int p1, .int p2, .int p3, .int p4, .int p5] : List Value).toArray = args at C ⊢
  generalize hu0 : S.2.2.1 = u0 at C ⊢
  rw [show lv_args 0 [.int p0, .int p1, .int p2, .int p3, .int p4, .int p5] = [(0, .int p0), (1, .int p1), (2, .int p2), (3, .int p3), (4, .int p4), (5, .int p5)] from (lva_i rfl (lva_i rfl (lva_i rfl (lva_i rfl (lva_i rfl (lva_i rfl lva_0))))))]
  refine g_bipush (v := (27 : Int32)) C dX6_six_0 rfl ?_
  refine g_bipush (v := (27 : Int32)) C dX6_six_2 rfl ?_
  refine g_iload_n C 0 dX6_six_4 rfl ?_
  refine g_imul C dX6_six_5 ?_
  refine g_iload_n C 1 dX6_six_6 rfl ?_
  refine g_iadd C dX6_six_7 ?_
  refine g_imul C dX6_six_8 ?_
  refine g_iload_n C 2 dX6_six_9 rfl ?_
  refine g_iadd C dX6_six_10 ?_
  refine g_istore C dX6_six_11 (by decide) rfl ?_
  refine g_iload_n C 4 dX6_six_13 rfl ?_
  refine g_if_ne C 22 dX6_six_14 rfl hF (fun c hF => ?_) (fun c hF => ?_)
  · refine g_bipush (v := (27 : Int32)) C dX6_six_22 rfl ?_
    refine g_iload C 0 dX6_six_24 rfl ?_
    refine g_imul C dX6_six_26 ?_
    refine g_iload_n C 4 dX6_six_27 rfl ?_
    refine g_iadd C dX6_six_28 ?_
    exact g_sub [5, 6] rfl (wfX6_six_j29 C hRf hRl p4 p5 (((27 : Int32) * (((27 : Int32) * (((27 : Int32) * p0) + p1)) + p2)) + p3) S hF)
  · refine g_iload C 0 dX6_six_17 rfl ?_
    refine g_goto C 29 dX6_six_19 rfl ?_
    exact g_sub [5, 6] rfl (wfX6_six_j29 C hRf hRl p4 p5 (((27 : Int32) * (((27 : Int32) * p0) + p1)) + p2) S hF)
/-! VowelChoirModel.isWord(IIIIII)Z -/
def fX6_isWord (p0 : Option Nat) (p1 : Int32) (p2 : Int32) (p3 : Int32) (p4 : Int32) (p5 : Int32) (p6 : Int32) (S : gS) : Option (Int32 × gS) :=
  (oGetI [3] 5 p0 S).bind fun x1 =>
  (if x1 = 0 then
  gB (gV [3] p0 S (fX6_wordHere p0 S)) fun x2 S3 =>
  (if x2 = (fX6_six p1 p2 p3 p4 p5 p6) then
  some ((1 : Int32), S3)
  else
  some ((0 : Int32), S3))
  else
  some ((0 : Int32), S))
theorem mX6_isWord {l : Launch} {D : gD} {K : gK} (hl : l.stackTraces = false) : ∀ (p0 : Option Nat) (p1 : Int32) (p2 : Int32) (p3 : Int32) (p4 : Int32) (p5 : Int32) (p6 : Int32) (S : gS) (r : Int32) (S1 : gS), fX6_isWord p0 p1 p2 p3 p4 p5 p6 S = some (r, S1) → gMet l D K yX6_isWord (ws_ yX6_isWord cX6_isWord 7 (Option.some Jvm.ClassFile.FieldType.boolean)) 4 163 [va_rf p0, .int p1, .int p2, .int p3, .int p4, .int p5, .int p6] S (.inl (some (.int r))) S1 := by
  intro p0 p1 p2 p3 p4 p5 p6 S r S1 hF
  unfold fX6_isWord at hF
  refine gMet.of hl (by decide +kernel) rfl (gle (lgs_r (lgs_i (lgs_i (lgs_i (lgs_i (lgs_i (lgs_i lgs_0))))))) (by decide)) (fun p e s m below meth c R hRf hRl C _ => ?_)
  generalize hargs : ([va_rf p0, .int p1, .int p2, .int p3, .int p4, .int p5, .int p6] : List Value).toArray = args at C ⊢
  generalize hu0 : S.2.2.1 = u0 at C ⊢
  rw [show lv_args 0 [va_rf p0, .int p1, .int p2, .int p3, .int p4, .int p5, .int p6] = [(0, va_rf p0), (1, .int p1), (2, .int p2), (3, .int p3), (4, .int p4), (5, .int p5), (6, .int p6)] from (lva_r rfl (lva_i rfl (lva_i rfl (lva_i rfl (lva_i rfl (lva_i rfl (lva_i rfl lva_0)))))))]
  refine g_aload_n C 0 dX6_isWord_0 rfl ?_
  refine g_getI C dX6_isWord_1 fd_48 (Or.inl q2033) (Or.inl rfl) hF (fun x1 hF => ?_)
  refine g_if_ne C 30 dX6_isWord_4 rfl hF (fun c hF => ?_) (fun c hF => ?_)
  · refine g_iconst (v := (0 : Int32)) C dX6_isWord_30 rfl ?_
    cases hF
    exact g_zret (ty := .boolean) C (rfl) dX6_isWord_31 rfl rfl
  · refine g_aload_n C 0 dX6_isWord_7 rfl ?_
    obtain ⟨x2, S3, h, hF⟩ := gB_some hF
    obtain ⟨hi, h⟩ := gV_some h
    refine g_after (g_runV (n := 0) C dX6_isWord_8 rfl hi (mX6_wordHere C.2.2.2.2.2.2.2.2.2.2.2.1 p0 S _ _ h) (lw_V q2211 q2213 qs53 q124 q2214) (by decide +kernel) ⟨by rw [hRf]; exact Nat.le_of_ble_eq_true rfl, by rw [hRl]; exact Nat.le_of_ble_eq_true rfl⟩ rfl rfl (gle gc_0 (by decide))) ?_
    refine g_iload_n C 1 dX6_isWord_11 rfl ?_
    refine g_iload_n C 2 dX6_isWord_12 rfl ?_
    refine g_iload_n C 3 dX6_isWord_13 rfl ?_
    refine g_iload C 4 dX6_isWord_14 rfl ?_
    refine g_iload C 5 dX6_isWord_16 rfl ?_
    refine g_iload C 6 dX6_isWord_18 rfl ?_
    refine g_after (g_runS (n := 6) C dX6_isWord_20 (mX6_six C.2.2.2.2.2.2.2.2.2.2.2.1 p1 p2 p3 p4 p5 p6 S3 _ rfl) (lw_S q2218 q2219 q124 q2220) (by decide +kernel) ⟨by rw [hRf]; exact Nat.le_of_ble_eq_true rfl, by rw [hRl]; exact Nat.le_of_ble_eq_true rfl⟩ rfl rfl (gle (gc_i gc_0) (by decide))) ?_
    refine g_icmp_ne C 30 dX6_isWord_23 rfl hF (fun c hF => ?_) (fun c hF => ?_)
    · refine g_iconst (v := (0 : Int32)) C dX6_isWord_30 rfl ?_
      cases hF
      exact g_zret (ty := .boolean) C (rfl) dX6_isWord_31 rfl rfl
    · refine g_iconst (v := (1 : Int32)) C dX6_isWord_26 rfl ?_
      refine g_goto C 31 dX6_isWord_27 rfl ?_
      cases hF
      exact g_zret (ty := .boolean) C (rfl) dX6_isWord_31 rfl rfl
/-! VowelChoirModel.kindHere()I -/
def fX6_kindHere (p0 : Option Nat) (S : gS) : Option (Int32 × gS) :=
  gB (gV [3] p0 S (fX6_isWord p0 (19 : Int32) (9 : Int32) (14 : Int32) (7 : Int32) (5 : Int32) (18 : Int32) S)) fun x1 S2 =>
  (if x1 = 0 then
  gB (gV [3] p0 S2 (fX6_isWord p0 (14 : Int32) (15 : Int32) (20 : Int32) (5 : Int32) (0 : Int32) (0 : Int32) S2)) fun x3 S4 =>
  (if x3 = 0 then
  gB (gV [3] p0 S4 (fX6_isWord p0 (12 : Int32) (9 : Int32) (11 : Int32) (5 : Int32) (0 : Int32) (0 : Int32) S4)) fun x5 S6 =>
  (if x5 = 0 then
  gB (gV [3] p0 S6 (fX6_isWord p0 (18 : Int32) (5 : Int32) (19 : Int32) (20 : Int32) (0 : Int32) (0 : Int32) S6)) fun x7 S8 =>
  (if x7 = 0 then
  some ((-1 : Int32), S8)
  else
  some ((3 : Int32), S8))
  else
  some ((2 : Int32), S6))
  else
  some ((1 : Int32), S4))
  else
  some ((0 : Int32), S2))
theorem mX6_kindHere {l : Launch} {D : gD} {K : gK} (hl : l.stackTraces = false) : ∀ (p0 : Option Nat) (S : gS) (r : Int32) (S1 : gS), fX6_kindHere p0 S = some (r, S1) → gMet l D K yX6_kindHere (ws_ yX6_kindHere cX6_kindHere 1 (Option.some Jvm.ClassFile.FieldType.int)) 5 189 [va_rf p0] S (.inl (some (.int r))) S1 := by
  intro p0 S r S1 hF
  unfold fX6_kindHere at hF
  refine gMet.of hl (by decide +kernel) rfl (gle (lgs_r lgs_0) (by decide)) (fun p e s m below meth c R hRf hRl C _ => ?_)
  generalize hargs : ([va_rf p0] : List Value).toArray = args at C ⊢
  generalize hu0 : S.2.2.1 = u0 at C ⊢
  rw [show lv_args 0 [va_rf p0] = [(0, va_rf p0)] from (lva_r rfl lva_0)]
  refine g_aload_n C 0 dX6_kindHere_0 rfl ?_
  refine g_bipush (v := (19 : Int32)) C dX6_kindHere_1 rfl ?_
  refine g_bipush (v := (9 : Int32)) C dX6_kindHere_3 rfl ?_
  refine g_bipush (v := (14 : Int32)) C dX6_kindHere_5 rfl ?_
  refine g_bipush (v := (7 : Int32)) C dX6_kindHere_7 rfl ?_
  refine g_iconst (v := (5 : Int32)) C dX6_kindHere_9 rfl ?_
  refine g_bipush (v := (18 : Int32)) C dX6_kindHere_10 rfl ?_
  obtain ⟨x1, S2, h, hF⟩ := gB_some hF
  obtain ⟨hi, h⟩ := gV_some h
  refine g_after (g_runV (n := 6) C dX6_kindHere_12 rfl hi (mX6_isWord C.2.2.2.2.2.2.2.2.2.2.2.1 p0 (19 : Int32) (9 : Int32) (14 : Int32) (7 : Int32) (5 : Int32) (18 : Int32) S _ _ h) (lw_V q2207 q2209 qs52 q124 q2210) (by decide +kernel) ⟨by rw [hRf]; exact Nat.le_of_ble_eq_true rfl, by rw [hRl]; exact Nat.le_of_ble_eq_true rfl⟩ rfl rfl (gle gc_0 (by decide))) ?_
  refine g_if_eq C 20 dX6_kindHere_15 rfl hF (fun c hF => ?_) (fun c hF => ?_)
  · refine g_aload_n C 0 dX6_kindHere_20 rfl ?_
    refine g_bipush (v := (14 : Int32)) C dX6_kindHere_21 rfl ?_
    refine g_bipush (v := (15 : Int32)) C dX6_kindHere_23 rfl ?_
    refine g_bipush (v := (20 : Int32)) C dX6_kindHere_25 rfl ?_
    refine g_iconst (v := (5 : Int32)) C dX6_kindHere_27 rfl ?_
    refine g_iconst (v := (0 : Int32)) C dX6_kindHere_28 rfl ?_
    refine g_iconst (v := (0 : Int32)) C dX6_kindHere_29 rfl ?_
    obtain ⟨x3, S4, h, hF⟩ := gB_some hF
    obtain ⟨hi, h⟩ := gV_some h
    refine g_after (g_runV (n := 6) C dX6_kindHere_30 rfl hi (mX6_isWord C.2.2.2.2.2.2.2.2.2.2.2.1 p0 (14 : Int32) (15 : Int32) (20 : Int32) (5 : Int32) (0 : Int32) (0 : Int32) S2 _ _ h) (lw_V q2207 q2209 qs52 q124 q2210) (by decide +kernel) ⟨by rw [hRf]; exact Nat.le_of_ble_eq_true rfl, by rw [hRl]; exact Nat.le_of_ble_eq_true rfl⟩ rfl rfl (gle gc_0 (by decide))) ?_
    refine g_if_eq C 38 dX6_kindHere_33 rfl hF (fun c hF => ?_) (fun c hF => ?_)
    · refine g_aload_n C 0 dX6_kindHere_38 rfl ?_
      refine g_bipush (v := (12 : Int32)) C dX6_kindHere_39 rfl ?_
      refine g_bipush (v := (9 : Int32)) C dX6_kindHere_41 rfl ?_
      refine g_bipush (v := (11 : Int32)) C dX6_kindHere_43 rfl ?_
      refine g_iconst (v := (5 : Int32)) C dX6_kindHere_45 rfl ?_
      refine g_iconst (v := (0 : Int32)) C dX6_kindHere_46 rfl ?_
      refine g_iconst (v := (0 : Int32)) C dX6_kindHere_47 rfl ?_
      obtain ⟨x5, S6, h, hF⟩ := gB_some hF
      obtain ⟨hi, h⟩ := gV_some h
      refine g_after (g_runV (n := 6) C dX6_kindHere_48 rfl hi (mX6_isWord C.2.2.2.2.2.2.2.2.2.2.2.1 p0 (12 : Int32) (9 : Int32) (11 : Int32) (5 : Int32) (0 : Int32) (0 : Int32) S4 _ _ h) (lw_V q2207 q2209 qs52 q124 q2210) (by decide +kernel) ⟨by rw [hRf]; exact Nat.le_of_ble_eq_true rfl, by rw [hRl]; exact Nat.le_of_ble_eq_true rfl⟩ rfl rfl (gle gc_0 (by decide))) ?_
      refine g_if_eq C 56 dX6_kindHere_51 rfl hF (fun c hF => ?_) (fun c hF => ?_)
      · refine g_aload_n C 0 dX6_kindHere_56 rfl ?_
        refine g_bipush (v := (18 : Int32)) C dX6_kindHere_57 rfl ?_
        refine g_iconst (v := (5 : Int32)) C dX6_kindHere_59 rfl ?_
        refine g_bipush (v := (19 : Int32)) C dX6_kindHere_60 rfl ?_
        refine g_bipush (v := (20 : Int32)) C dX6_kindHere_62 rfl ?_
        refine g_iconst (v := (0 : Int32)) C dX6_kindHere_64 rfl ?_
        refine g_iconst (v := (0 : Int32)) C dX6_kindHere_65 rfl ?_
        obtain ⟨x7, S8, h, hF⟩ := gB_some hF
        obtain ⟨hi, h⟩ := gV_some h
        refine g_after (g_runV (n := 6) C dX6_kindHere_66 rfl hi (mX6_isWord C.2.2.2.2.2.2.2.2.2.2.2.1 p0 (18 : Int32) (5 : Int32) (19 : Int32) (20 : Int32) (0 : Int32) (0 : Int32) S6 _ _ h) (lw_V q2207 q2209 qs52 q124 q2210) (by decide +kernel) ⟨by rw [hRf]; exact Nat.le_of_ble_eq_true rfl, by rw [hRl]; exact Nat.le_of_ble_eq_true rfl⟩ rfl rfl (gle gc_0 (by decide))) ?_
        refine g_if_eq C 76 dX6_kindHere_69 rfl hF (fun c hF => ?_) (fun c hF => ?_)
        · refine g_iconst (v := (-1 : Int32)) C dX6_kindHere_76 rfl ?_
          cases hF
          exact g_iret C dX6_kindHere_77 rfl rfl
        · refine g_iconst (v := (3 : Int32)) C dX6_kindHere_72 rfl ?_
          refine g_goto C 77 dX6_kindHere_73 rfl ?_
          cases hF
          exact g_iret C dX6_kindHere_77 rfl rfl
      · refine g_iconst (v := (2 : Int32)) C dX6_kindHere_54 rfl ?_
        cases hF
        exact g_iret C dX6_kindHere_55 rfl rfl
    · refine g_iconst (v := (1 : Int32)) C dX6_kindHere_36 rfl ?_
      cases hF
      exact g_iret C dX6_kindHere_37 rfl rfl
  · refine g_iconst (v := (0 : Int32)) C dX6_kindHere_18 rfl ?_
    cases hF
    exact g_iret C dX6_kindHere_19 rfl rfl
/-! VowelChoirModel.wrong(II)V -/
def fX6_wrong (p0 : Option Nat) (p1 : Int32) (p2 : Int32) (S : gS) : Option (Unit × gS) :=
  (oGetI [3] 5 p0 S).bind fun x1 =>
  (if x1 = 0 then
  (oPut [3] 5 p0 (.int p1) S).bind fun S2 =>
  (oPut [3] 6 p0 (.int p2) S2).bind fun S3 =>
  some ((), S3)
  else
  some ((), S))
theorem mX6_wrong {l : Launch} {D : gD} {K : gK} (hl : l.stackTraces = false) : ∀ (p0 : Option Nat) (p1 : Int32) (p2 : Int32) (S : gS) (r : Unit) (S1 : gS), fX6_wrong p0 p1 p2 S = some (r, S1) → gMet l D K yX6_wrong (ws_ yX6_wrong cX6_wrong 3 (Option.none : Option Jvm.ClassFile.FieldType)) 1 100 [va_rf p0, .int p1, .int p2] S (.inl none) S1 := by
  intro p0 p1 p2 S r S1 hF
  unfold fX6_wrong at hF
  refine gMet.of hl (by decide +kernel) rfl (gle (lgs_r (lgs_i (lgs_i lgs_0))) (by decide)) (fun p e s m below meth c R hRf hRl C _ => ?_)
  generalize hargs : ([va_rf p0, .int p1, .int p2] : List Value).toArray = args at C ⊢
  generalize hu0 : S.2.2.1 = u0 at C ⊢
  rw [show lv_args 0 [va_rf p0, .int p1, .int p2] = [(0, va_rf p0), (1, .int p1), (2, .int p2)] from (lva_r rfl (lva_i rfl (lva_i rfl lva_0)))]
  refine g_aload_n C 0 dX6_wrong_0 rfl ?_
  refine g_getI C dX6_wrong_1 fd_48 (Or.inl q2033) (Or.inl rfl) hF (fun x1 hF => ?_)
  refine g_if_ne C 17 dX6_wrong_4 rfl hF (fun c hF => ?_) (fun c hF => ?_)
  · cases hF
    exact g_vret C dX6_wrong_17 rfl rfl
  · refine g_aload_n C 0 dX6_wrong_7 rfl ?_
    refine g_iload_n C 1 dX6_wrong_8 rfl ?_
    refine g_put C dX6_wrong_9 fd_48 (Or.inl q2033) (Or.inl rfl) pf_0 rfl rfl hF (fun S2 hF => ?_)
    refine g_aload_n C 0 dX6_wrong_12 rfl ?_
    refine g_iload_n C 2 dX6_wrong_13 rfl ?_
    refine g_put C dX6_wrong_14 fd_49 (Or.inl q2034) (Or.inl rfl) pf_0 rfl rfl hF (fun S3 hF => ?_)
    cases hF
    exact g_vret C dX6_wrong_17 rfl rfl
/-! VowelChoirModel.mostOf(I)I -/
def fX6_mostOf (p0 : Int32) : Int32 :=
  (if p0 = 0 then
  (7 : Int32)
  else
  (if p0 = (1 : Int32) then
  (20 : Int32)
  else
  (12 : Int32)))
theorem mX6_mostOf {l : Launch} {D : gD} {K : gK} (hl : l.stackTraces = false) : ∀ (p0 : Int32) (S : gS) (r : Int32), fX6_mostOf p0 = r → gMet l D K yX6_mostOf (ws_ yX6_mostOf cX6_mostOf 1 (Option.some Jvm.ClassFile.FieldType.int)) 1 100 [.int p0] S (.inl (some (.int r))) S := by
  intro p0 S r hF
  unfold fX6_mostOf at hF
  refine gMet.of hl (by decide +kernel) rfl (gle (lgs_i lgs_0) (by decide)) (fun p e s m below meth c R hRf hRl C _ => ?_)
  generalize hargs : ([.int p0] : List Value).toArray = args at C ⊢
  generalize hu0 : S.2.2.1 = u0 at C ⊢
  rw [show lv_args 0 [.int p0] = [(0, .int p0)] from (lva_i rfl lva_0)]
  refine g_iload_n C 0 dX6_mostOf_0 rfl ?_
  refine g_if_ne C 9 dX6_mostOf_1 rfl hF (fun c hF => ?_) (fun c hF => ?_)
  · refine g_iload_n C 0 dX6_mostOf_9 rfl ?_
    refine g_iconst (v := (1 : Int32)) C dX6_mostOf_10 rfl ?_
    refine g_icmp_ne C 19 dX6_mostOf_11 rfl hF (fun c hF => ?_) (fun c hF => ?_)
    · refine g_bipush (v := (12 : Int32)) C dX6_mostOf_19 rfl ?_
      subst hF
      exact g_iret C dX6_mostOf_21 rfl rfl
    · refine g_bipush (v := (20 : Int32)) C dX6_mostOf_14 rfl ?_
      refine g_goto C 21 dX6_mostOf_16 rfl ?_
      subst hF
      exact g_iret C dX6_mostOf_21 rfl rfl
  · refine g_bipush (v := (7 : Int32)) C dX6_mostOf_4 rfl ?_
    refine g_goto C 21 dX6_mostOf_6 rfl ?_
    subst hF
    exact g_iret C dX6_mostOf_21 rfl rfl
/-! VowelChoirModel.skipWord()V -/
def fX6_skipWord_i0 (ih : (Option Nat) → gS → Option (Unit × gS)) (a0 : Option Nat) (S : gS) : Option (Unit × gS) :=
  (oGetI [3] 4 a0 S).bind fun x1 =>
  (gV [3] a0 S (fX6_byteAt a0 x1 S)).bind fun x2 =>
  (if (fX6_isSmall x2) = 0 then
  some ((), S)
  else
  (oGetI [3] 4 a0 S).bind fun x3 =>
  (oPut [3] 4 a0 (.int (x3 + (1 : Int32))) S).bind fun S4 =>
  ih a0 S4)
def fX6_skipWord_l0 : Nat → (Option Nat) → gS → Option (Unit × gS)
  | 0 => fun _ _ => none
  | n + 1 => fun a0 S => fX6_skipWord_i0 (fX6_skipWord_l0 n) a0 S
def fX6_skipWord (p0 : Option Nat) (S : gS) : Option (Unit × gS) :=
  fX6_skipWord_l0 gFU p0 S
theorem wfX6_skipWord_l0 {r : Unit} {S1 : gS} (C : gCx p l R s m args meth c D K RX6 cX6_skipWord 1 (Option.none : Option Jvm.ClassFile.FieldType) [] "skipWord" u0) (hRf : R.frames = 2) (hRl : R.locals = 121) : ∀ (n : Nat) (a0 : Option Nat) (S : gS), fX6_skipWord_l0 n a0 S = some (r, S1) → gW p l e R s m args below meth c D K 1 u0 (gEnd below args s D K u0 (.inl none) S1) S 0 [(0, va_rf a0)] [] := by
  intro n
  induction n with
  | zero => intro a0 S hF; cases hF
  | succ n hih =>
    intro a0 S hF
    have hF : fX6_skipWord_i0 (fX6_skipWord_l0 n) a0 S = some (r, S1) := hF
    revert hF hih
    generalize fX6_skipWord_l0 n = ih
    intro hih hF
    unfold fX6_skipWord_i0 at hF
    refine g_aload_n C 0 dX6_skipWord_0 rfl ?_
    refine g_aload_n C 0 dX6_skipWord_1 rfl ?_
    refine g_getI C dX6_skipWord_2 fd_47 (Or.inl q2032) (Or.inl rfl) hF (fun x1 hF => ?_)
    obtain ⟨x2, h, hF⟩ := oB hF
    obtain ⟨hi, h⟩ := gV_some h
    refine g_after (g_runV (n := 1) C dX6_skipWord_5 rfl hi (mX6_byteAt C.2.2.2.2.2.2.2.2.2.2.2.1 a0 x1 S _ h) (lw_V q2195 q2197 qs49 q124 q2198) (by decide +kernel) ⟨by rw [hRf]; exact Nat.le_of_ble_eq_true rfl, by rw [hRl]; exact Nat.le_of_ble_eq_true rfl⟩ rfl rfl (gle gc_0 (by decide))) ?_
    refine g_after (g_runS (n := 1) C dX6_skipWord_8 (mX6_isSmall C.2.2.2.2.2.2.2.2.2.2.2.1 x2 S _ rfl) (lw_S q2215 q2216 q124 q2217) (by decide +kernel) ⟨by rw [hRf]; exact Nat.le_of_ble_eq_true rfl, by rw [hRl]; exact Nat.le_of_ble_eq_true rfl⟩ rfl rfl (gle gc_0 (by decide))) ?_
    refine g_if_eq C 27 dX6_skipWord_11 rfl hF (fun c hF => ?_) (fun c hF => ?_)
    · cases hF
      exact g_vret C dX6_skipWord_27 rfl rfl
    · refine g_aload_n C 0 dX6_skipWord_14 rfl ?_
      refine g_dup C dX6_skipWord_15 (g_cr _) ?_
      refine g_getI C dX6_skipWord_16 fd_47 (Or.inl q2032) (Or.inl rfl) hF (fun x3 hF => ?_)
      refine g_iconst (v := (1 : Int32)) C dX6_skipWord_19 rfl ?_
      refine g_iadd C dX6_skipWord_20 ?_
      refine g_put C dX6_skipWord_21 fd_47 (Or.inl q2032) (Or.inl rfl) pf_0 rfl rfl hF (fun S4 hF => ?_)
      refine g_goto C 0 dX6_skipWord_24 rfl ?_
      exact g_sub [0] rfl (hih a0 S4 hF)
theorem mX6_skipWord {l : Launch} {D : gD} {K : gK} (hl : l.stackTraces = false) : ∀ (p0 : Option Nat) (S : gS) (r : Unit) (S1 : gS), fX6_skipWord p0 S = some (r, S1) → gMet l D K yX6_skipWord (ws_ yX6_skipWord cX6_skipWord 1 (Option.none : Option Jvm.ClassFile.FieldType)) 2 121 [va_rf p0] S (.inl none) S1 := by
  intro p0 S r S1 hF
  unfold fX6_skipWord at hF
  refine gMet.of hl (by decide +kernel) rfl (gle (lgs_r lgs_0) (by decide)) (fun p e s m below meth c R hRf hRl C _ => ?_)
  generalize hargs : ([va_rf p0] : List Value).toArray = args at C ⊢
  generalize hu0 : S.2.2.1 = u0 at C ⊢
  rw [show lv_args 0 [va_rf p0] = [(0, va_rf p0)] from (lva_r rfl lva_0)]
  exact g_sub [0] rfl (wfX6_skipWord_l0 C hRf hRl gFU p0 S hF)
/-! VowelChoirModel.isDigit(I)Z -/
def fX6_isDigit (p0 : Int32) : Int32 :=
  (if p0 < (48 : Int32) then
  (0 : Int32)
  else
  (if (57 : Int32) < p0 then
  (0 : Int32)
  else
  (1 : Int32)))
theorem mX6_isDigit {l : Launch} {D : gD} {K : gK} (hl : l.stackTraces = false) : ∀ (p0 : Int32) (S : gS) (r : Int32), fX6_isDigit p0 = r → gMet l D K yX6_isDigit (ws_ yX6_isDigit cX6_isDigit 1 (Option.some Jvm.ClassFile.FieldType.boolean)) 1 100 [.int p0] S (.inl (some (.int r))) S := by
  intro p0 S r hF
  unfold fX6_isDigit at hF
  refine gMet.of hl (by decide +kernel) rfl (gle (lgs_i lgs_0) (by decide)) (fun p e s m below meth c R hRf hRl C _ => ?_)
  generalize hargs : ([.int p0] : List Value).toArray = args at C ⊢
  generalize hu0 : S.2.2.1 = u0 at C ⊢
  rw [show lv_args 0 [.int p0] = [(0, .int p0)] from (lva_i rfl lva_0)]
  refine g_iload_n C 0 dX6_isDigit_0 rfl ?_
  refine g_bipush (v := (48 : Int32)) C dX6_isDigit_1 rfl ?_
  refine g_icmp_lt C 16 dX6_isDigit_3 rfl hF (fun c hF => ?_) (fun c hF => ?_)
  · refine g_iconst (v := (0 : Int32)) C dX6_isDigit_16 rfl ?_
    subst hF
    exact g_zret (ty := .boolean) C (rfl) dX6_isDigit_17 rfl rfl
  · refine g_iload_n C 0 dX6_isDigit_6 rfl ?_
    refine g_bipush (v := (57 : Int32)) C dX6_isDigit_7 rfl ?_
    refine g_icmp_gt C 16 dX6_isDigit_9 rfl hF (fun c hF => ?_) (fun c hF => ?_)
    · refine g_iconst (v := (0 : Int32)) C dX6_isDigit_16 rfl ?_
      subst hF
      exact g_zret (ty := .boolean) C (rfl) dX6_isDigit_17 rfl rfl
    · refine g_iconst (v := (1 : Int32)) C dX6_isDigit_12 rfl ?_
      refine g_goto C 17 dX6_isDigit_13 rfl ?_
      subst hF
      exact g_zret (ty := .boolean) C (rfl) dX6_isDigit_17 rfl rfl
/-! VowelChoirModel.number(II)I -/
def fX6_number_j122 (a0 : Option Nat) (a4 : Int32) (S : gS) : Option (Int32 × gS) :=
  (oGetI [3] 5 a0 S).bind fun x1 =>
  (if x1 = 0 then
  some (a4, S)
  else
  some ((0 : Int32), S))
def fX6_number_j91 (k44 : (Option Nat) → (Int32) → (Int32) → (Int32) → (Int32) → gS → Option (Int32 × gS)) (a0 : Option Nat) (a1 : Int32) (a2 : Int32) (a3 : Int32) (t0 : Int32) (S : gS) : Option (Int32 × gS) :=
  (oGetI [3] 4 a0 S).bind fun x1 =>
  (oPut [3] 4 a0 (.int (x1 + (1 : Int32))) S).bind fun S2 =>
  k44 a0 a1 a2 a3 t0 S2
def fX6_number_i44 (ih : (Option Nat) → (Int32) → (Int32) → (Int32) → (Int32) → gS → Option (Int32 × gS)) (a0 : Option Nat) (a1 : Int32) (a2 : Int32) (a3 : Int32) (a4 : Int32) (S : gS) : Option (Int32 × gS) :=
  (oGetI [3] 4 a0 S).bind fun x1 =>
  (gV [3] a0 S (fX6_byteAt a0 x1 S)).bind fun x2 =>
  (if (fX6_isDigit x2) = 0 then
  (if (fX6_in a4 a1 a2) = 0 then
  gB (gV [3] a0 S (fX6_wrong a0 (2 : Int32) a3 S)) fun x3 S4 =>
  fX6_number_j122 a0 a4 S4
  else
  fX6_number_j122 a0 a4 S)
  else
  (oGetI [3] 4 a0 S).bind fun x5 =>
  (gV [3] a0 S (fX6_byteAt a0 x5 S)).bind fun x6 =>
  (if ((((10 : Int32) * a4) + x6) - (48 : Int32)) ≤ (100000 : Int32) then
  fX6_number_j91 ih a0 a1 a2 a3 ((((10 : Int32) * a4) + x6) - (48 : Int32)) S
  else
  fX6_number_j91 ih a0 a1 a2 a3 (100000 : Int32) S))
def fX6_number_l44 : Nat → (Option Nat) → (Int32) → (Int32) → (Int32) → (Int32) → gS → Option (Int32 × gS)
  | 0 => fun _ _ _ _ _ _ => none
  | n + 1 => fun a0 a1 a2 a3 a4 S => fX6_number_i44 (fX6_number_l44 n) a0 a1 a2 a3 a4 S
def fX6_number (p0 : Option Nat) (p1 : Int32) (p2 : Int32) (S : gS) : Option (Int32 × gS) :=
  (oGetI [3] 5 p0 S).bind fun x1 =>
  (if x1 = 0 then
  gB (gV [3] p0 S (fX6_blanks p0 S)) fun x2 S3 =>
  (oGetI [3] 4 p0 S3).bind fun x4 =>
  (oGetI [3] 4 p0 S3).bind fun x5 =>
  (gV [3] p0 S3 (fX6_byteAt p0 x5 S3)).bind fun x6 =>
  (if (fX6_isDigit x6) = 0 then
  (oGetI [3] 4 p0 S3).bind fun x7 =>
  gB (gV [3] p0 S3 (fX6_wrong p0 (1 : Int32) x7 S3)) fun x8 S9 =>
  fX6_number_l44 gFU p0 p1 p2 x4 (0 : Int32) S9
  else
  fX6_number_l44 gFU p0 p1 p2 x4 (0 : Int32) S3)
  else
  some ((0 : Int32), S))
theorem wfX6_number_j122 {r : Int32} {S1 : gS} (C : gCx p l R s m args meth c D K RX6 cX6_number 5 (Option.some Jvm.ClassFile.FieldType.int) [] "number" u0) (hRf : R.frames = 3) (hRl : R.locals = 141) : ∀ (a0 : Option Nat) (a4 : Int32) (S : gS), fX6_number_j122 a0 a4 S = some (r, S1) → gW p l e R s m args below meth c D K 5 u0 (gEnd below args s D K u0 (.inl (some (.int r))) S1) S 122 [(0, va_rf a0), (4, .int a4)] [] := by
  intro a0 a4 S hF
  unfold fX6_number_j122 at hF
  refine g_aload_n C 0 dX6_number_122 rfl ?_
  refine g_getI C dX6_number_123 fd_48 (Or.inl q2033) (Or.inl rfl) hF (fun x1 hF => ?_)
  refine g_if_ne C 134 dX6_number_126 rfl hF (fun c hF => ?_) (fun c hF => ?_)
  · refine g_iconst (v := (0 : Int32)) C dX6_number_134 rfl ?_
    cases hF
    exact g_iret C dX6_number_135 rfl rfl
  · refine g_iload C 1 dX6_number_129 rfl ?_
    refine g_goto C 135 dX6_number_131 rfl ?_
    cases hF
    exact g_iret C dX6_number_135 rfl rfl
theorem wfX6_number_j91 {r : Int32} {S1 : gS} (C : gCx p l R s m args meth c D K RX6 cX6_number 5 (Option.some Jvm.ClassFile.FieldType.int) [] "number" u0) (hRf : R.frames = 3) (hRl : R.locals = 141) (k44 : (Option Nat) → (Int32) → (Int32) → (Int32) → (Int32) → gS → Option (Int32 × gS)) (hk44 : ∀ (a0 : Option Nat) (a1 : Int32) (a2 : Int32) (a3 : Int32) (a4 : Int32) (S : gS), k44 a0 a1 a2 a3 a4 S = some (r, S1) → gW p l e R s m args below meth c D K 5 u0 (gEnd below args s D K u0 (.inl (some (.int r))) S1) S 44 [(0, va_rf a0), (1, .int a1), (2, .int a2), (3, .int a3), (4, .int a4)] []) : ∀ (a0 : Option Nat) (a1 : Int32) (a2 : Int32) (a3 : Int32) (t0 : Int32) (S : gS), fX6_number_j91 k44 a0 a1 a2 a3 t0 S = some (r, S1) → gW p l e R s m args below meth c D K 5 u0 (gEnd below args s D K u0 (.inl (some (.int r))) S1) S 91 [(0, va_rf a0), (1, .int a1), (2, .int a2), (3, .int a3)] [.int t0] := by
  intro a0 a1 a2 a3 t0 S hF
  unfold fX6_number_j91 at hF
  refine g_istore C dX6_number_91 (by decide) rfl ?_
  refine g_aload_n C 1 dX6_number_93 rfl ?_
  refine g_dup C dX6_number_94 (g_cr _) ?_
  refine g_getI C dX6_number_95 fd_47 (Or.inl q2032) (Or.inl rfl) hF (fun x1 hF => ?_)
  refine g_iconst (v := (1 : Int32)) C dX6_number_98 rfl ?_
  refine g_iadd C dX6_number_99 ?_
  refine g_put C dX6_number_100 fd_47 (Or.inl q2032) (Or.inl rfl) pf_0 rfl rfl hF (fun S2 hF => ?_)
  refine g_goto C 44 dX6_number_103 rfl ?_
  exact g_sub [1, 2, 3, 4, 0] rfl (hk44 a0 a1 a2 a3 t0 S2 hF)
theorem wfX6_number_l44 {r : Int32} {S1 : gS} (C : gCx p l R s m args meth c D K RX6 cX6_number 5 (Option.some Jvm.ClassFile.FieldType.int) [] "number" u0) (hRf : R.frames = 3) (hRl : R.locals = 141) : ∀ (n : Nat) (a0 : Option Nat) (a1 : Int32) (a2 : Int32) (a3 : Int32) (a4 : Int32) (S : gS), fX6_number_l44 n a0 a1 a2 a3 a4 S = some (r, S1) → gW p l e R s m args below meth c D K 5 u0 (gEnd below args s D K u0 (.inl (some (.int r))) S1) S 44 [(0, va_rf a0), (1, .int a1), (2, .int a2), (3, .int a3), (4, .int a4)] [] := by
  intro n
  induction n with
  | zero => intro a0 a1 a2 a3 a4 S hF; cases hF
  | succ n hih =>
    intro a0 a1 a2 a3 a4 S hF
    have hF : fX6_number_i44 (fX6_number_l44 n) a0 a1 a2 a3 a4 S = some (r, S1) := hF
    revert hF hih
    generalize fX6_number_l44 n = ih
    intro hih hF
    unfold fX6_number_i44 at hF
    refine g_aload_n C 0 dX6_number_44 rfl ?_
    refine g_aload_n C 0 dX6_number_45 rfl ?_
    refine g_getI C dX6_number_46 fd_47 (Or.inl q2032) (Or.inl rfl) hF (fun x1 hF => ?_)
    obtain ⟨x2, h, hF⟩ := oB hF
    obtain ⟨hi, h⟩ := gV_some h
    refine g_after (g_runV (n := 1) C dX6_number_49 rfl hi (mX6_byteAt C.2.2.2.2.2.2.2.2.2.2.2.1 a0 x1 S _ h) (lw_V q2195 q2197 qs49 q124 q2198) (by decide +kernel) ⟨by rw [hRf]; exact Nat.le_of_ble_eq_true rfl, by rw [hRl]; exact Nat.le_of_ble_eq_true rfl⟩ rfl rfl (gle gc_0 (by decide))) ?_
    refine g_after (g_runS (n := 1) C dX6_number_52 (mX6_isDigit C.2.2.2.2.2.2.2.2.2.2.2.1 x2 S _ rfl) (lw_S q2236 q2237 q124 q2238) (by decide +kernel) ⟨by rw [hRf]; exact Nat.le_of_ble_eq_true rfl, by rw [hRl]; exact Nat.le_of_ble_eq_true rfl⟩ rfl rfl (gle gc_0 (by decide))) ?_
    refine g_if_eq C 106 dX6_number_55 rfl hF (fun c hF => ?_) (fun c hF => ?_)
    · refine g_iload C 4 dX6_number_106 rfl ?_
      refine g_iload_n C 1 dX6_number_108 rfl ?_
      refine g_iload_n C 2 dX6_number_109 rfl ?_
      refine g_after (g_runS (n := 3) C dX6_number_110 (mX6_in C.2.2.2.2.2.2.2.2.2.2.2.1 a4 a1 a2 S _ rfl) (lw_S q2180 q2181 q124 q2182) (by decide +kernel) ⟨by rw [hRf]; exact Nat.le_of_ble_eq_true rfl, by rw [hRl]; exact Nat.le_of_ble_eq_true rfl⟩ rfl rfl (gle gc_0 (by decide))) ?_
      refine g_if_ne C 122 dX6_number_113 rfl hF (fun c hF => ?_) (fun c hF => ?_)
      · exact g_sub [0, 4] rfl (wfX6_number_j122 C hRf hRl a0 a4 S hF)
      · refine g_aload_n C 0 dX6_number_116 rfl ?_
        refine g_iconst (v := (2 : Int32)) C dX6_number_117 rfl ?_
        refine g_iload_n C 3 dX6_number_118 rfl ?_
        obtain ⟨x3, S4, h, hF⟩ := gB_some hF
        obtain ⟨hi, h⟩ := gV_some h
        refine g_after (g_runV (n := 2) C dX6_number_119 rfl hi (mX6_wrong C.2.2.2.2.2.2.2.2.2.2.2.1 a0 (2 : Int32) a3 S _ _ h) (lw_V q2221 q2223 qs54 q124 q2224) (by decide +kernel) ⟨by rw [hRf]; exact Nat.le_of_ble_eq_true rfl, by rw [hRl]; exact Nat.le_of_ble_eq_true rfl⟩ rfl rfl (gle gc_0 (by decide))) ?_
        exact g_sub [0, 4] rfl (wfX6_number_j122 C hRf hRl a0 a4 S4 hF)
    · refine g_bipush (v := (10 : Int32)) C dX6_number_58 rfl ?_
      refine g_iload C 4 dX6_number_60 rfl ?_
      refine g_imul C dX6_number_62 ?_
      refine g_aload_n C 0 dX6_number_63 rfl ?_
      refine g_aload_n C 0 dX6_number_64 rfl ?_
      refine g_getI C dX6_number_65 fd_47 (Or.inl q2032) (Or.inl rfl) hF (fun x5 hF => ?_)
      obtain ⟨x6, h, hF⟩ := oB hF
      obtain ⟨hi, h⟩ := gV_some h
      refine g_after (g_runV (n := 1) C dX6_number_68 rfl hi (mX6_byteAt C.2.2.2.2.2.2.2.2.2.2.2.1 a0 x5 S _ h) (lw_V q2195 q2197 qs49 q124 q2198) (by decide +kernel) ⟨by rw [hRf]; exact Nat.le_of_ble_eq_true rfl, by rw [hRl]; exact Nat.le_of_ble_eq_true rfl⟩ rfl rfl (gle (gc_i gc_0) (by decide))) ?_
      refine g_iadd C dX6_number_71 ?_
      refine g_bipush (v := (48 : Int32)) C dX6_number_72 rfl ?_
      refine g_isub C dX6_number_74 ?_
      refine g_istore C dX6_number_75 (by decide) rfl ?_
      refine g_iload C 0 dX6_number_77 rfl ?_
      refine g_ldc (v := (100000 : Int32)) C dX6_number_79 q2239 ?_
      refine g_icmp_le C 89 dX6_number_81 rfl hF (fun c hF => ?_) (fun c hF => ?_)
      · refine g_iload C 0 dX6_number_89 rfl ?_
        exact g_sub [1, 2, 3, 4] rfl (wfX6_number_j91 C hRf hRl (ih) (hih) a0 a1 a2 a3 ((((10 : Int32) * a4) + x6) - (48 : Int32)) S hF)
      · refine g_ldc (v := (100000 : Int32)) C dX6_number_84 q2239 ?_
        refine g_goto C 91 dX6_number_86 rfl ?_
        exact g_sub [1, 2, 3, 4] rfl (wfX6_number_j91 C hRf hRl (ih) (hih) a0 a1 a2 a3 (100000 : Int32) S hF)
theorem mX6_number {l : Launch} {D : gD} {K : gK} (hl : l.stackTraces = false) : ∀ (p0 : Option Nat) (p1 : Int32) (p2 : Int32) (S : gS) (r : Int32) (S1 : gS), fX6_number p0 p1 p2 S = some (r, S1) → gMet l D K yX6_number (ws_ yX6_number cX6_number 5 (Option.some Jvm.ClassFile.FieldType.int)) 3 141 [va_rf p0, .int p1, .int p2] S (.inl (some (.int r))) S1 := by
  intro p0 p1 p2 S r S1 hF
  unfold fX6_number at hF
  refine gMet.of hl (by decide +kernel) rfl (gle (lgs_r (lgs_i (lgs_i lgs_0))) (by decide)) (fun p e s m below meth c R hRf hRl C _ => ?_)
  generalize hargs : ([va_rf p0, .int p1, .int p2] : List Value).toArray = args at C ⊢
  generalize hu0 : S.2.2.1 = u0 at C ⊢
  rw [show lv_args 0 [va_rf p0, .int p1, .int p2] = [(0, va_rf p0), (1, .int p1), (2, .int p2)] from (lva_r rfl (lva_i rfl (lva_i rfl lva_0)))]
  refine g_aload_n C 0 dX6_number_0 rfl ?_
  refine g_getI C dX6_number_1 fd_48 (Or.inl q2033) (Or.inl rfl) hF (fun x1 hF => ?_)
  refine g_if_eq C 9 dX6_number_4 rfl hF (fun c hF => ?_) (fun c hF => ?_)
  · refine g_aload_n C 0 dX6_number_9 rfl ?_
    obtain ⟨x2, S3, h, hF⟩ := gB_some hF
    obtain ⟨hi, h⟩ := gV_some h
    refine g_after (g_runV (n := 0) C dX6_number_10 rfl hi (mX6_blanks C.2.2.2.2.2.2.2.2.2.2.2.1 p0 S _ _ h) (lw_V q2191 q2193 qs48 q124 q2194) (by decide +kernel) ⟨by rw [hRf]; exact Nat.le_of_ble_eq_true rfl, by rw [hRl]; exact Nat.le_of_ble_eq_true rfl⟩ rfl rfl (gle gc_0 (by decide))) ?_
    refine g_aload_n C 0 dX6_number_13 rfl ?_
    refine g_getI C dX6_number_14 fd_47 (Or.inl q2032) (Or.inl rfl) hF (fun x4 hF => ?_)
    refine g_istore_n C dX6_number_17 (by decide) rfl ?_
    refine g_iconst (v := (0 : Int32)) C dX6_number_18 rfl ?_
    refine g_istore C dX6_number_19 (by decide) rfl ?_
    refine g_aload_n C 2 dX6_number_21 rfl ?_
    refine g_aload_n C 2 dX6_number_22 rfl ?_
    refine g_getI C dX6_number_23 fd_47 (Or.inl q2032) (Or.inl rfl) hF (fun x5 hF => ?_)
    obtain ⟨x6, h, hF⟩ := oB hF
    obtain ⟨hi, h⟩ := gV_some h
    refine g_after (g_runV (n := 1) C dX6_number_26 rfl hi (mX6_byteAt C.2.2.2.2.2.2.2.2.2.2.2.1 p0 x5 S3 _ h) (lw_V q2195 q2197 qs49 q124 q2198) (by decide +kernel) ⟨by rw [hRf]; exact Nat.le_of_ble_eq_true rfl, by rw [hRl]; exact Nat.le_of_ble_eq_true rfl⟩ rfl rfl (gle gc_0 (by decide))) ?_
    refine g_after (g_runS (n := 1) C dX6_number_29 (mX6_isDigit C.2.2.2.2.2.2.2.2.2.2.2.1 x6 S3 _ rfl) (lw_S q2236 q2237 q124 q2238) (by decide +kernel) ⟨by rw [hRf]; exact Nat.le_of_ble_eq_true rfl, by rw [hRl]; exact Nat.le_of_ble_eq_true rfl⟩ rfl rfl (gle gc_0 (by decide))) ?_
    refine g_if_ne C 44 dX6_number_32 rfl hF (fun c hF => ?_) (fun c hF => ?_)
    · exact g_sub [2, 3, 4, 1, 0] rfl (wfX6_number_l44 C hRf hRl gFU p0 p1 p2 x4 (0 : Int32) S3 hF)
    · refine g_aload_n C 2 dX6_number_35 rfl ?_
      refine g_iconst (v := (1 : Int32)) C dX6_number_36 rfl ?_
      refine g_aload_n C 2 dX6_number_37 rfl ?_
      refine g_getI C dX6_number_38 fd_47 (Or.inl q2032) (Or.inl rfl) hF (fun x7 hF => ?_)
      obtain ⟨x8, S9, h, hF⟩ := gB_some hF
      obtain ⟨hi, h⟩ := gV_some h
      refine g_after (g_runV (n := 2) C dX6_number_41 rfl hi (mX6_wrong C.2.2.2.2.2.2.2.2.2.2.2.1 p0 (1 : Int32) x7 S3 _ _ h) (lw_V q2221 q2223 qs54 q124 q2224) (by decide +kernel) ⟨by rw [hRf]; exact Nat.le_of_ble_eq_true rfl, by rw [hRl]; exact Nat.le_of_ble_eq_true rfl⟩ rfl rfl (gle gc_0 (by decide))) ?_
      exact g_sub [2, 3, 4, 1, 0] rfl (wfX6_number_l44 C hRf hRl gFU p0 p1 p2 x4 (0 : Int32) S9 hF)
  · refine g_iconst (v := (0 : Int32)) C dX6_number_7 rfl ?_
    cases hF
    exact g_iret C dX6_number_8 rfl rfl
/-! VowelChoirModel.sign(I)V -/
def fX6_sign (p0 : Option Nat) (p1 : Int32) (S : gS) : Option (Unit × gS) :=
  (oGetI [3] 5 p0 S).bind fun x1 =>
  (if x1 = 0 then
  gB (gV [3] p0 S (fX6_blanks p0 S)) fun x2 S3 =>
  (oGetI [3] 4 p0 S3).bind fun x4 =>
  (gV [3] p0 S3 (fX6_byteAt p0 x4 S3)).bind fun x5 =>
  (if x5 = p1 then
  (oGetI [3] 4 p0 S3).bind fun x9 =>
  (oPut [3] 4 p0 (.int (x9 + (1 : Int32))) S3).bind fun S10 =>
  some ((), S10)
  else
  (oGetI [3] 4 p0 S3).bind fun x6 =>
  gB (gV [3] p0 S3 (fX6_wrong p0 (1 : Int32) x6 S3)) fun x7 S8 =>
  some ((), S8))
  else
  some ((), S))
theorem mX6_sign {l : Launch} {D : gD} {K : gK} (hl : l.stackTraces = false) : ∀ (p0 : Option Nat) (p1 : Int32) (S : gS) (r : Unit) (S1 : gS), fX6_sign p0 p1 S = some (r, S1) → gMet l D K yX6_sign (ws_ yX6_sign cX6_sign 2 (Option.none : Option Jvm.ClassFile.FieldType)) 3 141 [va_rf p0, .int p1] S (.inl none) S1 := by
  intro p0 p1 S r S1 hF
  unfold fX6_sign at hF
  refine gMet.of hl (by decide +kernel) rfl (gle (lgs_r (lgs_i lgs_0)) (by decide)) (fun p e s m below meth c R hRf hRl C _ => ?_)
  generalize hargs : ([va_rf p0, .int p1] : List Value).toArray = args at C ⊢
  generalize hu0 : S.2.2.1 = u0 at C ⊢
  rw [show lv_args 0 [va_rf p0, .int p1] = [(0, va_rf p0), (1, .int p1)] from (lva_r rfl (lva_i rfl lva_0))]
  refine g_aload_n C 0 dX6_sign_0 rfl ?_
  refine g_getI C dX6_sign_1 fd_48 (Or.inl q2033) (Or.inl rfl) hF (fun x1 hF => ?_)
  refine g_if_eq C 8 dX6_sign_4 rfl hF (fun c hF => ?_) (fun c hF => ?_)
  · refine g_aload_n C 0 dX6_sign_8 rfl ?_
    obtain ⟨x2, S3, h, hF⟩ := gB_some hF
    obtain ⟨hi, h⟩ := gV_some h
    refine g_after (g_runV (n := 0) C dX6_sign_9 rfl hi (mX6_blanks C.2.2.2.2.2.2.2.2.2.2.2.1 p0 S _ _ h) (lw_V q2191 q2193 qs48 q124 q2194) (by decide +kernel) ⟨by rw [hRf]; exact Nat.le_of_ble_eq_true rfl, by rw [hRl]; exact Nat.le_of_ble_eq_true rfl⟩ rfl rfl (gle gc_0 (by decide))) ?_
    refine g_aload_n C 0 dX6_sign_12 rfl ?_
    refine g_aload_n C 0 dX6_sign_13 rfl ?_
    refine g_getI C dX6_sign_14 fd_47 (Or.inl q2032) (Or.inl rfl) hF (fun x4 hF => ?_)
    obtain ⟨x5, h, hF⟩ := oB hF
    obtain ⟨hi, h⟩ := gV_some h
    refine g_after (g_runV (n := 1) C dX6_sign_17 rfl hi (mX6_byteAt C.2.2.2.2.2.2.2.2.2.2.2.1 p0 x4 S3 _ h) (lw_V q2195 q2197 qs49 q124 q2198) (by decide +kernel) ⟨by rw [hRf]; exact Nat.le_of_ble_eq_true rfl, by rw [hRl]; exact Nat.le_of_ble_eq_true rfl⟩ rfl rfl (gle gc_0 (by decide))) ?_
    refine g_iload_n C 1 dX6_sign_20 rfl ?_
    refine g_icmp_ne C 37 dX6_sign_21 rfl hF (fun c hF => ?_) (fun c hF => ?_)
    · refine g_aload_n C 0 dX6_sign_37 rfl ?_
      refine g_iconst (v := (1 : Int32)) C dX6_sign_38 rfl ?_
      refine g_aload_n C 0 dX6_sign_39 rfl ?_
      refine g_getI C dX6_sign_40 fd_47 (Or.inl q2032) (Or.inl rfl) hF (fun x6 hF => ?_)
      obtain ⟨x7, S8, h, hF⟩ := gB_some hF
      obtain ⟨hi, h⟩ := gV_some h
      refine g_after (g_runV (n := 2) C dX6_sign_43 rfl hi (mX6_wrong C.2.2.2.2.2.2.2.2.2.2.2.1 p0 (1 : Int32) x6 S3 _ _ h) (lw_V q2221 q2223 qs54 q124 q2224) (by decide +kernel) ⟨by rw [hRf]; exact Nat.le_of_ble_eq_true rfl, by rw [hRl]; exact Nat.le_of_ble_eq_true rfl⟩ rfl rfl (gle gc_0 (by decide))) ?_
      cases hF
      exact g_vret C dX6_sign_46 rfl rfl
    · refine g_aload_n C 0 dX6_sign_24 rfl ?_
      refine g_dup C dX6_sign_25 (g_cr _) ?_
      refine g_getI C dX6_sign_26 fd_47 (Or.inl q2032) (Or.inl rfl) hF (fun x9 hF => ?_)
      refine g_iconst (v := (1 : Int32)) C dX6_sign_29 rfl ?_
      refine g_iadd C dX6_sign_30 ?_
      refine g_put C dX6_sign_31 fd_47 (Or.inl q2032) (Or.inl rfl) pf_0 rfl rfl hF (fun S10 hF => ?_)
      refine g_goto C 46 dX6_sign_34 rfl ?_
      cases hF
      exact g_vret C dX6_sign_46 rfl rfl
  · cases hF
    exact g_vret C dX6_sign_7 rfl rfl
/-! VowelChoirModel.clause()V -/
def fX6_clause_j266 (a0 : Option Nat) (a1 : Int32) (S : gS) : Option (Unit × gS) :=
  gB (gV [3] a0 S (fX6_sign a0 (59 : Int32) S)) fun x1 S2 =>
  (if (3 : Int32) ≤ a1 then
  some ((), S2)
  else
  (oGetR [3] 11 a0 S2).bind fun x3 =>
  (oLdI 0 x3 a1 S2).bind fun x4 =>
  (oGetI [3] 5 a0 S2).bind fun x5 =>
  (if x5 = 0 then
  (oStI 0 x3 a1 (x4 + (1 : Int32)) S2).bind fun S7 =>
  some ((), S7)
  else
  (oStI 0 x3 a1 (x4 + (0 : Int32)) S2).bind fun S6 =>
  some ((), S6)))
def fX6_clause_j95 (a0 : Option Nat) (a1 : Int32) (t0 : Int32) (S : gS) : Option (Unit × gS) :=
  (if a1 = (0 : Int32) then
  (oGetR [3] 13 a0 S).bind fun x1 =>
  (oLdR 5 x1 t0 S).bind fun x2 =>
  gB (gV [3] a0 S (fX6_number a0 (0 : Int32) (5 : Int32) S)) fun x3 S4 =>
  (oStI 0 x2 (0 : Int32) x3 S4).bind fun S5 =>
  (oGetR [3] 13 a0 S5).bind fun x6 =>
  (oLdR 5 x6 t0 S5).bind fun x7 =>
  gB (gV [3] a0 S5 (fX6_number a0 (0 : Int32) (60 : Int32) S5)) fun x8 S9 =>
  (oStI 0 x7 (1 : Int32) x8 S9).bind fun S10 =>
  (oGetR [3] 13 a0 S10).bind fun x11 =>
  (oLdR 5 x11 t0 S10).bind fun x12 =>
  gB (gV [3] a0 S10 (fX6_number a0 (1 : Int32) (30 : Int32) S10)) fun x13 S14 =>
  (oStI 0 x12 (2 : Int32) x13 S14).bind fun S15 =>
  fX6_clause_j266 a0 a1 S15
  else
  if a1 = (1 : Int32) then
  (oGetR [3] 15 a0 S).bind fun x16 =>
  (oLdR 5 x16 t0 S).bind fun x17 =>
  gB (gV [3] a0 S (fX6_number a0 (0 : Int32) (5 : Int32) S)) fun x18 S19 =>
  (oStI 0 x17 (0 : Int32) x18 S19).bind fun S20 =>
  (oGetR [3] 15 a0 S20).bind fun x21 =>
  (oLdR 5 x21 t0 S20).bind fun x22 =>
  gB (gV [3] a0 S20 (fX6_number a0 (1 : Int32) (9 : Int32) S20)) fun x23 S24 =>
  (oStI 0 x22 (1 : Int32) x23 S24).bind fun S25 =>
  fX6_clause_j266 a0 a1 S25
  else
  if a1 = (2 : Int32) then
  (oGetR [3] 17 a0 S).bind fun x26 =>
  (oLdR 5 x26 t0 S).bind fun x27 =>
  (oGetR [3] 11 a0 S).bind fun x28 =>
  (oLdI 0 x28 (1 : Int32) S).bind fun x29 =>
  gB (gV [3] a0 S (fX6_number a0 (0 : Int32) (x29 - (1 : Int32)) S)) fun x30 S31 =>
  (oStI 0 x27 (0 : Int32) x30 S31).bind fun S32 =>
  (oGetR [3] 17 a0 S32).bind fun x33 =>
  (oLdR 5 x33 t0 S32).bind fun x34 =>
  gB (gV [3] a0 S32 (fX6_number a0 (0 : Int32) (5 : Int32) S32)) fun x35 S36 =>
  (oStI 0 x34 (1 : Int32) x35 S36).bind fun S37 =>
  fX6_clause_j266 a0 a1 S37
  else
  gB (gV [3] a0 S (fX6_number a0 (0 : Int32) (30 : Int32) S)) fun x38 S39 =>
  (oGetI [3] 5 a0 S39).bind fun x40 =>
  (if x40 = 0 then
  (oGetR [3] 11 a0 S39).bind fun x41 =>
  (oStI 0 x41 (3 : Int32) x38 S39).bind fun S42 =>
  fX6_clause_j266 a0 a1 S42
  else
  fX6_clause_j266 a0 a1 S39))
def fX6_clause_j58 (a0 : Option Nat) (a1 : Int32) (S : gS) : Option (Unit × gS) :=
  (oGetI [3] 5 a0 S).bind fun x1 =>
  (if x1 = 0 then
  gB (gV [3] a0 S (fX6_skipWord a0 S)) fun x2 S3 =>
  (oGetI [3] 7 a0 S3).bind fun x4 =>
  (oPut [3] 7 a0 (.int (x4 + (1 : Int32))) S3).bind fun S5 =>
  (if (3 : Int32) ≤ a1 then
  fX6_clause_j95 a0 a1 (0 : Int32) S5
  else
  (oGetR [3] 11 a0 S5).bind fun x6 =>
  (oLdI 0 x6 a1 S5).bind fun x7 =>
  fX6_clause_j95 a0 a1 x7 S5)
  else
  some ((), S))
def fX6_clause_j49 (a0 : Option Nat) (a1 : Int32) (S : gS) : Option (Unit × gS) :=
  (oGetI [3] 4 a0 S).bind fun x1 =>
  gB (gV [3] a0 S (fX6_wrong a0 (3 : Int32) x1 S)) fun x2 S3 =>
  fX6_clause_j58 a0 a1 S3
def fX6_clause (p0 : Option Nat) (S : gS) : Option (Unit × gS) :=
  gB (gV [3] p0 S (fX6_kindHere p0 S)) fun x1 S2 =>
  (if x1 = (-1 : Int32) then
  (oGetI [3] 4 p0 S2).bind fun x6 =>
  gB (gV [3] p0 S2 (fX6_wrong p0 (1 : Int32) x6 S2)) fun x7 S8 =>
  fX6_clause_j58 p0 x1 S8
  else
  (oGetI [3] 7 p0 S2).bind fun x3 =>
  (if x3 = (60 : Int32) then
  fX6_clause_j49 p0 x1 S2
  else
  (if (3 : Int32) ≤ x1 then
  fX6_clause_j58 p0 x1 S2
  else
  (oGetR [3] 11 p0 S2).bind fun x4 =>
  (oLdI 0 x4 x1 S2).bind fun x5 =>
  (if x5 = (fX6_mostOf x1) then
  fX6_clause_j49 p0 x1 S2
  else
  fX6_clause_j58 p0 x1 S2))))
theorem wfX6_clause_j266 {r : Unit} {S1 : gS} (C : gCx p l R s m args meth c D K RX6 cX6_clause 4 (Option.none : Option Jvm.ClassFile.FieldType) [] "clause" u0) (hRf : R.frames = 6) (hRl : R.locals = 209) : ∀ (a0 : Option Nat) (a1 : Int32) (S : gS), fX6_clause_j266 a0 a1 S = some (r, S1) → gW p l e R s m args below meth c D K 4 u0 (gEnd below args s D K u0 (.inl none) S1) S 266 [(0, va_rf a0), (1, .int a1)] [] := by
  intro a0 a1 S hF
  unfold fX6_clause_j266 at hF
  refine g_aload_n C 0 dX6_clause_266 rfl ?_
  refine g_bipush (v := (59 : Int32)) C dX6_clause_267 rfl ?_
  obtain ⟨x1, S2, h, hF⟩ := gB_some hF
  obtain ⟨hi, h⟩ := gV_some h
  refine g_after (g_runV (n := 1) C dX6_clause_269 rfl hi (mX6_sign C.2.2.2.2.2.2.2.2.2.2.2.1 a0 (59 : Int32) S _ _ h) (lw_V q2240 q2242 qs57 q124 q2243) (by decide +kernel) ⟨by rw [hRf]; exact Nat.le_of_ble_eq_true rfl, by rw [hRl]; exact Nat.le_of_ble_eq_true rfl⟩ rfl rfl (gle gc_0 (by decide))) ?_
  refine g_iload_n C 1 dX6_clause_272 rfl ?_
  refine g_iconst (v := (3 : Int32)) C dX6_clause_273 rfl ?_
  refine g_icmp_ge C 298 dX6_clause_274 rfl hF (fun c hF => ?_) (fun c hF => ?_)
  · cases hF
    exact g_vret C dX6_clause_298 rfl rfl
  · refine g_aload_n C 0 dX6_clause_277 rfl ?_
    refine g_getR C dX6_clause_278 fd_14 (Or.inl q2039) (Or.inl rfl) hF (fun x3 hF => ?_)
    refine g_iload_n C 1 dX6_clause_281 rfl ?_
    refine g_dup2 C dX6_clause_282 rfl (g_cr _) ?_
    refine g_iald C dX6_clause_283 hF (fun x4 hF => ?_)
    refine g_aload_n C 0 dX6_clause_284 rfl ?_
    refine g_getI C dX6_clause_285 fd_48 (Or.inl q2033) (Or.inl rfl) hF (fun x5 hF => ?_)
    refine g_if_ne C 295 dX6_clause_288 rfl hF (fun c hF => ?_) (fun c hF => ?_)
    · refine g_iconst (v := (0 : Int32)) C dX6_clause_295 rfl ?_
      refine g_iadd C dX6_clause_296 ?_
      refine g_iast C dX6_clause_297 hF (fun S6 hF => ?_)
      cases hF
      exact g_vret C dX6_clause_298 rfl rfl
    · refine g_iconst (v := (1 : Int32)) C dX6_clause_291 rfl ?_
      refine g_goto C 296 dX6_clause_292 rfl ?_
      refine g_iadd C dX6_clause_296 ?_
      refine g_iast C dX6_clause_297 hF (fun S7 hF => ?_)
      cases hF
      exact g_vret C dX6_clause_298 rfl rfl
theorem wfX6_clause_j95 {r : Unit} {S1 : gS} (C : gCx p l R s m args meth c D K RX6 cX6_clause 4 (Option.none : Option Jvm.ClassFile.FieldType) [] "clause" u0) (hRf : R.frames = 6) (hRl : R.locals = 209) : ∀ (a0 : Option Nat) (a1 : Int32) (t0 : Int32) (S : gS), fX6_clause_j95 a0 a1 t0 S = some (r, S1) → gW p l e R s m args below meth c D K 4 u0 (gEnd below args s D K u0 (.inl none) S1) S 95 [(0, va_rf a0), (1, .int a1)] [.int t0] := by
  intro a0 a1 t0 S hF
  unfold fX6_clause_j95 at hF
  refine g_istore_n C dX6_clause_95 (by decide) rfl ?_
  refine g_iload_n C 2 dX6_clause_96 rfl ?_
  refine g_case hF (fun c0 hF => ?_) (fun c0 hF => ?_)
  · refine g_tableIn C (0) (27) 124 dX6_clause_97 (by rw [c0]; rfl) (by decide) (by decide) rfl rfl ?_
    refine g_aload_n C 1 dX6_clause_124 rfl ?_
    refine g_getR C dX6_clause_125 fd_17 (Or.inl q2041) (Or.inl rfl) hF (fun x1 hF => ?_)
    refine g_iload_n C 0 dX6_clause_128 rfl ?_
    refine g_aald C (kd := 5) rfl dX6_clause_129 hF (fun x2 hF => ?_)
    refine g_iconst (v := (0 : Int32)) C dX6_clause_130 rfl ?_
    refine g_aload_n C 1 dX6_clause_131 rfl ?_
    refine g_iconst (v := (0 : Int32)) C dX6_clause_132 rfl ?_
    refine g_iconst (v := (5 : Int32)) C dX6_clause_133 rfl ?_
    obtain ⟨x3, S4, h, hF⟩ := gB_some hF
    obtain ⟨hi, h⟩ := gV_some h
    refine g_after (g_runV (n := 2) C dX6_clause_134 rfl hi (mX6_number C.2.2.2.2.2.2.2.2.2.2.2.1 a0 (0 : Int32) (5 : Int32) S _ _ h) (lw_V q2232 q2234 qs56 q124 q2235) (by decide +kernel) ⟨by rw [hRf]; exact Nat.le_of_ble_eq_true rfl, by rw [hRl]; exact Nat.le_of_ble_eq_true rfl⟩ rfl rfl (gle (gc_i (gc_r gc_0)) (by decide))) ?_
    refine g_iast C dX6_clause_137 hF (fun S5 hF => ?_)
    refine g_aload_n C 1 dX6_clause_138 rfl ?_
    refine g_getR C dX6_clause_139 fd_17 (Or.inl q2041) (Or.inl rfl) hF (fun x6 hF => ?_)
    refine g_iload_n C 0 dX6_clause_142 rfl ?_
    refine g_aald C (kd := 5) rfl dX6_clause_143 hF (fun x7 hF => ?_)
    refine g_iconst (v := (1 : Int32)) C dX6_clause_144 rfl ?_
    refine g_aload_n C 1 dX6_clause_145 rfl ?_
    refine g_iconst (v := (0 : Int32)) C dX6_clause_146 rfl ?_
    refine g_bipush (v := (60 : Int32)) C dX6_clause_147 rfl ?_
    obtain ⟨x8, S9, h, hF⟩ := gB_some hF
    obtain ⟨hi, h⟩ := gV_some h
    refine g_after (g_runV (n := 2) C dX6_clause_149 rfl hi (mX6_number C.2.2.2.2.2.2.2.2.2.2.2.1 a0 (0 : Int32) (60 : Int32) S5 _ _ h) (lw_V q2232 q2234 qs56 q124 q2235) (by decide +kernel) ⟨by rw [hRf]; exact Nat.le_of_ble_eq_true rfl, by rw [hRl]; exact Nat.le_of_ble_eq_true rfl⟩ rfl rfl (gle (gc_i (gc_r gc_0)) (by decide))) ?_
    refine g_iast C dX6_clause_152 hF (fun S10 hF => ?_)
    refine g_aload_n C 1 dX6_clause_153 rfl ?_
    refine g_getR C dX6_clause_154 fd_17 (Or.inl q2041) (Or.inl rfl) hF (fun x11 hF => ?_)
    refine g_iload_n C 0 dX6_clause_157 rfl ?_
    refine g_aald C (kd := 5) rfl dX6_clause_158 hF (fun x12 hF => ?_)
    refine g_iconst (v := (2 : Int32)) C dX6_clause_159 rfl ?_
    refine g_aload_n C 1 dX6_clause_160 rfl ?_
    refine g_iconst (v := (1 : Int32)) C dX6_clause_161 rfl ?_
    refine g_bipush (v := (30 : Int32)) C dX6_clause_162 rfl ?_
    obtain ⟨x13, S14, h, hF⟩ := gB_some hF
    obtain ⟨hi, h⟩ := gV_some h
    refine g_after (g_runV (n := 2) C dX6_clause_164 rfl hi (mX6_number C.2.2.2.2.2.2.2.2.2.2.2.1 a0 (1 : Int32) (30 : Int32) S10 _ _ h) (lw_V q2232 q2234 qs56 q124 q2235) (by decide +kernel) ⟨by rw [hRf]; exact Nat.le_of_ble_eq_true rfl, by rw [hRl]; exact Nat.le_of_ble_eq_true rfl⟩ rfl rfl (gle (gc_i (gc_r gc_0)) (by decide))) ?_
    refine g_iast C dX6_clause_167 hF (fun S15 hF => ?_)
    refine g_goto C 266 dX6_clause_168 rfl ?_
    exact g_sub [1, 2] rfl (wfX6_clause_j266 C hRf hRl a0 a1 S15 hF)
  refine g_case hF (fun c1 hF => ?_) (fun c1 hF => ?_)
  · refine g_tableIn C (1) (74) 171 dX6_clause_97 (by rw [c1]; rfl) (by decide) (by decide) rfl rfl ?_
    refine g_aload_n C 1 dX6_clause_171 rfl ?_
    refine g_getR C dX6_clause_172 fd_18 (Or.inl q2043) (Or.inl rfl) hF (fun x16 hF => ?_)
    refine g_iload_n C 0 dX6_clause_175 rfl ?_
    refine g_aald C (kd := 5) rfl dX6_clause_176 hF (fun x17 hF => ?_)
    refine g_iconst (v := (0 : Int32)) C dX6_clause_177 rfl ?_
    refine g_aload_n C 1 dX6_clause_178 rfl ?_
    refine g_iconst (v := (0 : Int32)) C dX6_clause_179 rfl ?_
    refine g_iconst (v := (5 : Int32)) C dX6_clause_180 rfl ?_
    obtain ⟨x18, S19, h, hF⟩ := gB_some hF
    obtain ⟨hi, h⟩ := gV_some h
    refine g_after (g_runV (n := 2) C dX6_clause_181 rfl hi (mX6_number C.2.2.2.2.2.2.2.2.2.2.2.1 a0 (0 : Int32) (5 : Int32) S _ _ h) (lw_V q2232 q2234 qs56 q124 q2235) (by decide +kernel) ⟨by rw [hRf]; exact Nat.le_of_ble_eq_true rfl, by rw [hRl]; exact Nat.le_of_ble_eq_true rfl⟩ rfl rfl (gle (gc_i (gc_r gc_0)) (by decide))) ?_
    refine g_iast C dX6_clause_184 hF (fun S20 hF => ?_)
    refine g_aload_n C 1 dX6_clause_185 rfl ?_
    refine g_getR C dX6_clause_186 fd_18 (Or.inl q2043) (Or.inl rfl) hF (fun x21 hF => ?_)
    refine g_iload_n C 0 dX6_clause_189 rfl ?_
    refine g_aald C (kd := 5) rfl dX6_clause_190 hF (fun x22 hF => ?_)
    refine g_iconst (v := (1 : Int32)) C dX6_clause_191 rfl ?_
    refine g_aload_n C 1 dX6_clause_192 rfl ?_
    refine g_iconst (v := (1 : Int32)) C dX6_clause_193 rfl ?_
    refine g_bipush (v := (9 : Int32)) C dX6_clause_194 rfl ?_
    obtain ⟨x23, S24, h, hF⟩ := gB_some hF
    obtain ⟨hi, h⟩ := gV_some h
    refine g_after (g_runV (n := 2) C dX6_clause_196 rfl hi (mX6_number C.2.2.2.2.2.2.2.2.2.2.2.1 a0 (1 : Int32) (9 : Int32) S20 _ _ h) (lw_V q2232 q2234 qs56 q124 q2235) (by decide +kernel) ⟨by rw [hRf]; exact Nat.le_of_ble_eq_true rfl, by rw [hRl]; exact Nat.le_of_ble_eq_true rfl⟩ rfl rfl (gle (gc_i (gc_r gc_0)) (by decide))) ?_
    refine g_iast C dX6_clause_199 hF (fun S25 hF => ?_)
    refine g_goto C 266 dX6_clause_200 rfl ?_
    exact g_sub [1, 2] rfl (wfX6_clause_j266 C hRf hRl a0 a1 S25 hF)
  refine g_case hF (fun c2 hF => ?_) (fun c2 hF => ?_)
  · refine g_tableIn C (2) (106) 203 dX6_clause_97 (by rw [c2]; rfl) (by decide) (by decide) rfl rfl ?_
    refine g_aload_n C 1 dX6_clause_203 rfl ?_
    refine g_getR C dX6_clause_204 fd_20 (Or.inl q2045) (Or.inl rfl) hF (fun x26 hF => ?_)
    refine g_iload_n C 0 dX6_clause_207 rfl ?_
    refine g_aald C (kd := 5) rfl dX6_clause_208 hF (fun x27 hF => ?_)
    refine g_iconst (v := (0 : Int32)) C dX6_clause_209 rfl ?_
    refine g_aload_n C 1 dX6_clause_210 rfl ?_
    refine g_iconst (v := (0 : Int32)) C dX6_clause_211 rfl ?_
    refine g_aload_n C 1 dX6_clause_212 rfl ?_
    refine g_getR C dX6_clause_213 fd_14 (Or.inl q2039) (Or.inl rfl) hF (fun x28 hF => ?_)
    refine g_iconst (v := (1 : Int32)) C dX6_clause_216 rfl ?_
    refine g_iald C dX6_clause_217 hF (fun x29 hF => ?_)
    refine g_iconst (v := (1 : Int32)) C dX6_clause_218 rfl ?_
    refine g_isub C dX6_clause_219 ?_
    obtain ⟨x30, S31, h, hF⟩ := gB_some hF
    obtain ⟨hi, h⟩ := gV_some h
    refine g_after (g_runV (n := 2) C dX6_clause_220 rfl hi (mX6_number C.2.2.2.2.2.2.2.2.2.2.2.1 a0 (0 : Int32) (x29 - (1 : Int32)) S _ _ h) (lw_V q2232 q2234 qs56 q124 q2235) (by decide +kernel) ⟨by rw [hRf]; exact Nat.le_of_ble_eq_true rfl, by rw [hRl]; exact Nat.le_of_ble_eq_true rfl⟩ rfl rfl (gle (gc_i (gc_r gc_0)) (by decide))) ?_
    refine g_iast C dX6_clause_223 hF (fun S32 hF => ?_)
    refine g_aload_n C 1 dX6_clause_224 rfl ?_
    refine g_getR C dX6_clause_225 fd_20 (Or.inl q2045) (Or.inl rfl) hF (fun x33 hF => ?_)
    refine g_iload_n C 0 dX6_clause_228 rfl ?_
    refine g_aald C (kd := 5) rfl dX6_clause_229 hF (fun x34 hF => ?_)
    refine g_iconst (v := (1 : Int32)) C dX6_clause_230 rfl ?_
    refine g_aload_n C 1 dX6_clause_231 rfl ?_
    refine g_iconst (v := (0 : Int32)) C dX6_clause_232 rfl ?_
    refine g_iconst (v := (5 : Int32)) C dX6_clause_233 rfl ?_
    obtain ⟨x35, S36, h, hF⟩ := gB_some hF
    obtain ⟨hi, h⟩ := gV_some h
    refine g_after (g_runV (n := 2) C dX6_clause_234 rfl hi (mX6_number C.2.2.2.2.2.2.2.2.2.2.2.1 a0 (0 : Int32) (5 : Int32) S32 _ _ h) (lw_V q2232 q2234 qs56 q124 q2235) (by decide +kernel) ⟨by rw [hRf]; exact Nat.le_of_ble_eq_true rfl, by rw [hRl]; exact Nat.le_of_ble_eq_true rfl⟩ rfl rfl (gle (gc_i (gc_r gc_0)) (by decide))) ?_
    refine g_iast C dX6_clause_237 hF (fun S37 hF => ?_)
    refine g_goto C 266 dX6_clause_238 rfl ?_
    exact g_sub [1, 2] rfl (wfX6_clause_j266 C hRf hRl a0 a1 S37 hF)
  have hne := And.intro trivial trivial
  have n0 := lv_neT c0 (show ((0 : Int32)).toInt = 0 by decide)
  have n1 := lv_neT c1 (show ((1 : Int32)).toInt = 1 by decide)
  have n2 := lv_neT c2 (show ((2 : Int32)).toInt = 2 by decide)
  refine g_tableOut C 241 dX6_clause_97 (by omega) rfl ?_
  refine g_aload_n C 1 dX6_clause_241 rfl ?_
  refine g_iconst (v := (0 : Int32)) C dX6_clause_242 rfl ?_
  refine g_bipush (v := (30 : Int32)) C dX6_clause_243 rfl ?_
  obtain ⟨x38, S39, h, hF⟩ := gB_some hF
  obtain ⟨hi, h⟩ := gV_some h
  refine g_after (g_runV (n := 2) C dX6_clause_245 rfl hi (mX6_number C.2.2.2.2.2.2.2.2.2.2.2.1 a0 (0 : Int32) (30 : Int32) S _ _ h) (lw_V q2232 q2234 qs56 q124 q2235) (by decide +kernel) ⟨by rw [hRf]; exact Nat.le_of_ble_eq_true rfl, by rw [hRl]; exact Nat.le_of_ble_eq_true rfl⟩ rfl rfl (gle gc_0 (by decide))) ?_
  refine g_istore_n C dX6_clause_248 (by decide) rfl ?_
  refine g_aload_n C 2 dX6_clause_249 rfl ?_
  refine g_getI C dX6_clause_250 fd_48 (Or.inl q2033) (Or.inl rfl) hF (fun x40 hF => ?_)
  refine g_if_ne C 266 dX6_clause_253 rfl hF (fun c hF => ?_) (fun c hF => ?_)
  · exact g_sub [2, 3] rfl (wfX6_clause_j266 C hRf hRl a0 a1 S39 hF)
  · refine g_aload_n C 2 dX6_clause_256 rfl ?_
    refine g_getR C dX6_clause_257 fd_14 (Or.inl q2039) (Or.inl rfl) hF (fun x41 hF => ?_)
    refine g_iconst (v := (3 : Int32)) C dX6_clause_260 rfl ?_
    refine g_iload_n C 0 dX6_clause_261 rfl ?_
    refine g_iast C dX6_clause_262 hF (fun S42 hF => ?_)
    refine g_goto C 266 dX6_clause_263 rfl ?_
    exact g_sub [2, 3] rfl (wfX6_clause_j266 C hRf hRl a0 a1 S42 hF)
theorem wfX6_clause_j58 {r : Unit} {S1 : gS} (C : gCx p l R s m args meth c D K RX6 cX6_clause 4 (Option.none : Option Jvm.ClassFile.FieldType) [] "clause" u0) (hRf : R.frames = 6) (hRl : R.locals = 209) : ∀ (a0 : Option Nat) (a1 : Int32) (S : gS), fX6_clause_j58 a0 a1 S = some (r, S1) → gW p l e R s m args below meth c D K 4 u0 (gEnd below args s D K u0 (.inl none) S1) S 58 [(0, va_rf a0), (1, .int a1)] [] := by
  intro a0 a1 S hF
  unfold fX6_clause_j58 at hF
  refine g_aload_n C 0 dX6_clause_58 rfl ?_
  refine g_getI C dX6_clause_59 fd_48 (Or.inl q2033) (Or.inl rfl) hF (fun x1 hF => ?_)
  refine g_if_eq C 66 dX6_clause_62 rfl hF (fun c hF => ?_) (fun c hF => ?_)
  · refine g_aload_n C 0 dX6_clause_66 rfl ?_
    obtain ⟨x2, S3, h, hF⟩ := gB_some hF
    obtain ⟨hi, h⟩ := gV_some h
    refine g_after (g_runV (n := 0) C dX6_clause_67 rfl hi (mX6_skipWord C.2.2.2.2.2.2.2.2.2.2.2.1 a0 S _ _ h) (lw_V q2228 q2230 qs55 q124 q2231) (by decide +kernel) ⟨by rw [hRf]; exact Nat.le_of_ble_eq_true rfl, by rw [hRl]; exact Nat.le_of_ble_eq_true rfl⟩ rfl rfl (gle gc_0 (by decide))) ?_
    refine g_aload_n C 0 dX6_clause_70 rfl ?_
    refine g_dup C dX6_clause_71 (g_cr _) ?_
    refine g_getI C dX6_clause_72 fd_50 (Or.inl q2035) (Or.inl rfl) hF (fun x4 hF => ?_)
    refine g_iconst (v := (1 : Int32)) C dX6_clause_75 rfl ?_
    refine g_iadd C dX6_clause_76 ?_
    refine g_put C dX6_clause_77 fd_50 (Or.inl q2035) (Or.inl rfl) pf_0 rfl rfl hF (fun S5 hF => ?_)
    refine g_iload_n C 1 dX6_clause_80 rfl ?_
    refine g_iconst (v := (3 : Int32)) C dX6_clause_81 rfl ?_
    refine g_icmp_ge C 94 dX6_clause_82 rfl hF (fun c hF => ?_) (fun c hF => ?_)
    · refine g_iconst (v := (0 : Int32)) C dX6_clause_94 rfl ?_
      exact g_sub [0, 1] rfl (wfX6_clause_j95 C hRf hRl a0 a1 (0 : Int32) S5 hF)
    · refine g_aload_n C 0 dX6_clause_85 rfl ?_
      refine g_getR C dX6_clause_86 fd_14 (Or.inl q2039) (Or.inl rfl) hF (fun x6 hF => ?_)
      refine g_iload_n C 1 dX6_clause_89 rfl ?_
      refine g_iald C dX6_clause_90 hF (fun x7 hF => ?_)
      refine g_goto C 95 dX6_clause_91 rfl ?_
      exact g_sub [0, 1] rfl (wfX6_clause_j95 C hRf hRl a0 a1 x7 S5 hF)
  · cases hF
    exact g_vret C dX6_clause_65 rfl rfl
theorem wfX6_clause_j49 {r : Unit} {S1 : gS} (C : gCx p l R s m args meth c D K RX6 cX6_clause 4 (Option.none : Option Jvm.ClassFile.FieldType) [] "clause" u0) (hRf : R.frames = 6) (hRl : R.locals = 209) : ∀ (a0 : Option Nat) (a1 : Int32) (S : gS), fX6_clause_j49 a0 a1 S = some (r, S1) → gW p l e R s m args below meth c D K 4 u0 (gEnd below args s D K u0 (.inl none) S1) S 49 [(0, va_rf a0), (1, .int a1)] [] := by
  intro a0 a1 S hF
  unfold fX6_clause_j49 at hF
  refine g_aload_n C 0 dX6_clause_49 rfl ?_
  refine g_iconst (v := (3 : Int32)) C dX6_clause_50 rfl ?_
  refine g_aload_n C 0 dX6_clause_51 rfl ?_
  refine g_getI C dX6_clause_52 fd_47 (Or.inl q2032) (Or.inl rfl) hF (fun x1 hF => ?_)
  obtain ⟨x2, S3, h, hF⟩ := gB_some hF
  obtain ⟨hi, h⟩ := gV_some h
  refine g_after (g_runV (n := 2) C dX6_clause_55 rfl hi (mX6_wrong C.2.2.2.2.2.2.2.2.2.2.2.1 a0 (3 : Int32) x1 S _ _ h) (lw_V q2221 q2223 qs54 q124 q2224) (by decide +kernel) ⟨by rw [hRf]; exact Nat.le_of_ble_eq_true rfl, by rw [hRl]; exact Nat.le_of_ble_eq_true rfl⟩ rfl rfl (gle gc_0 (by decide))) ?_
  exact g_sub [0, 1] rfl (wfX6_clause_j58 C hRf hRl a0 a1 S3 hF)
theorem mX6_clause {l : Launch} {D : gD} {K : gK} (hl : l.stackTraces = false) : ∀ (p0 : Option Nat) (S : gS) (r : Unit) (S1 : gS), fX6_clause p0 S = some (r, S1) → gMet l D K yX6_clause (ws_ yX6_clause cX6_clause 4 (Option.none : Option Jvm.ClassFile.FieldType)) 6 209 [va_rf p0] S (.inl none) S1 := by
  intro p0 S r S1 hF
  unfold fX6_clause at hF
  refine gMet.of hl (by decide +kernel) rfl (gle (lgs_r lgs_0) (by decide)) (fun p e s m below meth c R hRf hRl C _ => ?_)
  generalize hargs : ([va_rf p0] : List Value).toArray = args at C ⊢
  generalize hu0 : S.2.2.1 = u0 at C ⊢
  rw [show lv_args 0 [va_rf p0] = [(0, va_rf p0)] from (lva_r rfl lva_0)]
  refine g_aload_n C 0 dX6_clause_0 rfl ?_
  obtain ⟨x1, S2, h, hF⟩ := gB_some hF
  obtain ⟨hi, h⟩ := gV_some h
  refine g_after (g_runV (n := 0) C dX6_clause_1 rfl hi (mX6_kindHere C.2.2.2.2.2.2.2.2.2.2.2.1 p0 S _ _ h) (lw_V q2203 q2205 qs51 q124 q2206) (by decide +kernel) ⟨by rw [hRf]; exact Nat.le_of_ble_eq_true rfl, by rw [hRl]; exact Nat.le_of_ble_eq_true rfl⟩ rfl rfl (gle gc_0 (by decide))) ?_
  refine g_istore_n C dX6_clause_4 (by decide) (gcons rfl (gfr rfl gf0)) ?_
  refine g_iload_n C 0 dX6_clause_5 rfl ?_
  refine g_iconst (v := (-1 : Int32)) C dX6_clause_6 rfl ?_
  refine g_icmp_ne C 22 dX6_clause_7 rfl hF (fun c hF => ?_) (fun c hF => ?_)
  · refine g_aload_n C 1 dX6_clause_22 rfl ?_
    refine g_getI C dX6_clause_23 fd_50 (Or.inl q2035) (Or.inl rfl) hF (fun x3 hF => ?_)
    refine g_bipush (v := (60 : Int32)) C dX6_clause_26 rfl ?_
    refine g_icmp_eq C 49 dX6_clause_28 rfl hF (fun c hF => ?_) (fun c hF => ?_)
    · exact g_sub [1, 0] rfl (wfX6_clause_j49 C hRf hRl p0 x1 S2 hF)
    · refine g_iload_n C 0 dX6_clause_31 rfl ?_
      refine g_iconst (v := (3 : Int32)) C dX6_clause_32 rfl ?_
      refine g_icmp_ge C 58 dX6_clause_33 rfl hF (fun c hF => ?_) (fun c hF => ?_)
      · exact g_sub [1, 0] rfl (wfX6_clause_j58 C hRf hRl p0 x1 S2 hF)
      · refine g_aload_n C 1 dX6_clause_36 rfl ?_
        refine g_getR C dX6_clause_37 fd_14 (Or.inl q2039) (Or.inl rfl) hF (fun x4 hF => ?_)
        refine g_iload_n C 0 dX6_clause_40 rfl ?_
        refine g_iald C dX6_clause_41 hF (fun x5 hF => ?_)
        refine g_iload_n C 0 dX6_clause_42 rfl ?_
        refine g_after (g_runS (n := 1) C dX6_clause_43 (mX6_mostOf C.2.2.2.2.2.2.2.2.2.2.2.1 x1 S2 _ rfl) (lw_S q2225 q2226 q124 q2227) (by decide +kernel) ⟨by rw [hRf]; exact Nat.le_of_ble_eq_true rfl, by rw [hRl]; exact Nat.le_of_ble_eq_true rfl⟩ rfl rfl (gle (gc_i gc_0) (by decide))) ?_
        refine g_icmp_ne C 58 dX6_clause_46 rfl hF (fun c hF => ?_) (fun c hF => ?_)
        · exact g_sub [1, 0] rfl (wfX6_clause_j58 C hRf hRl p0 x1 S2 hF)
        · exact g_sub [1, 0] rfl (wfX6_clause_j49 C hRf hRl p0 x1 S2 hF)
  · refine g_aload_n C 1 dX6_clause_10 rfl ?_
    refine g_iconst (v := (1 : Int32)) C dX6_clause_11 rfl ?_
    refine g_aload_n C 1 dX6_clause_12 rfl ?_
    refine g_getI C dX6_clause_13 fd_47 (Or.inl q2032) (Or.inl rfl) hF (fun x6 hF => ?_)
    obtain ⟨x7, S8, h, hF⟩ := gB_some hF
    obtain ⟨hi, h⟩ := gV_some h
    refine g_after (g_runV (n := 2) C dX6_clause_16 rfl hi (mX6_wrong C.2.2.2.2.2.2.2.2.2.2.2.1 p0 (1 : Int32) x6 S2 _ _ h) (lw_V q2221 q2223 qs54 q124 q2224) (by decide +kernel) ⟨by rw [hRf]; exact Nat.le_of_ble_eq_true rfl, by rw [hRl]; exact Nat.le_of_ble_eq_true rfl⟩ rfl rfl (gle gc_0 (by decide))) ?_
    refine g_goto C 58 dX6_clause_19 rfl ?_
    exact g_sub [1, 0] rfl (wfX6_clause_j58 C hRf hRl p0 x1 S8 hF)
/-! VowelChoirModel.ends()I -/
def fX6_ends (p0 : Option Nat) (S : gS) : Option (Int32 × gS) :=
  (oGetI [3] 6 p0 S).bind fun x1 =>
  (oPut [3] 3 p0 (.int x1) S).bind fun S2 =>
  (oGetI [3] 5 p0 S2).bind fun x3 =>
  some (x3 - (10 : Int32), S2)
theorem mX6_ends {l : Launch} {D : gD} {K : gK} (hl : l.stackTraces = false) : ∀ (p0 : Option Nat) (S : gS) (r : Int32) (S1 : gS), fX6_ends p0 S = some (r, S1) → gMet l D K yX6_ends (ws_ yX6_ends cX6_ends 1 (Option.some Jvm.ClassFile.FieldType.int)) 1 100 [va_rf p0] S (.inl (some (.int r))) S1 := by
  intro p0 S r S1 hF
  unfold fX6_ends at hF
  refine gMet.of hl (by decide +kernel) rfl (gle (lgs_r lgs_0) (by decide)) (fun p e s m below meth c R hRf hRl C _ => ?_)
  generalize hargs : ([va_rf p0] : List Value).toArray = args at C ⊢
  generalize hu0 : S.2.2.1 = u0 at C ⊢
  rw [show lv_args 0 [va_rf p0] = [(0, va_rf p0)] from (lva_r rfl lva_0)]
  refine g_aload_n C 0 dX6_ends_0 rfl ?_
  refine g_aload_n C 0 dX6_ends_1 rfl ?_
  refine g_getI C dX6_ends_2 fd_49 (Or.inl q2034) (Or.inl rfl) hF (fun x1 hF => ?_)
  refine g_put C dX6_ends_5 fd_28 (Or.inl q2031) (Or.inl rfl) pf_0 rfl rfl hF (fun S2 hF => ?_)
  refine g_aload_n C 0 dX6_ends_8 rfl ?_
  refine g_getI C dX6_ends_9 fd_48 (Or.inl q2033) (Or.inl rfl) hF (fun x3 hF => ?_)
  refine g_bipush (v := (10 : Int32)) C dX6_ends_12 rfl ?_
  refine g_isub C dX6_ends_14 ?_
  cases hF
  exact g_iret C dX6_ends_15 rfl rfl
/-! VowelChoirModel.choir(I)I -/
def fX6_choir_j71 (a0 : Option Nat) (S : gS) : Option (Int32 × gS) :=
  (oGetI [3] 5 a0 S).bind fun x1 =>
  (if x1 = 0 then
  (oPut [3] 3 a0 (.int ((-1 : Int32))) S).bind fun S2 =>
  gB (gV [3] a0 S2 (fX6_beginsAnew a0 S2)) fun x3 S4 =>
  (oGetR [3] 12 a0 S4).bind fun x5 =>
  (oLdI 0 x5 (0 : Int32) S4).bind fun x6 =>
  some (x6, S4)
  else
  gB (gV [3] a0 S (fX6_ends a0 S)) fun x7 S8 =>
  some (x7, S8))
def fX6_choir_i42 (ih : (Option Nat) → gS → Option (Int32 × gS)) (a0 : Option Nat) (S : gS) : Option (Int32 × gS) :=
  (oGetI [3] 5 a0 S).bind fun x1 =>
  (if x1 = 0 then
  (oGetI [3] 4 a0 S).bind fun x2 =>
  (oGetI [3] 2 a0 S).bind fun x3 =>
  (if x3 ≤ x2 then
  fX6_choir_j71 a0 S
  else
  gB (gV [3] a0 S (fX6_clause a0 S)) fun x4 S5 =>
  gB (gV [3] a0 S5 (fX6_blanks a0 S5)) fun x6 S7 =>
  ih a0 S7)
  else
  fX6_choir_j71 a0 S)
def fX6_choir_l42 : Nat → (Option Nat) → gS → Option (Int32 × gS)
  | 0 => fun _ _ => none
  | n + 1 => fun a0 S => fX6_choir_i42 (fX6_choir_l42 n) a0 S
def fX6_choir_j23 (a0 : Option Nat) (a1 : Int32) (t0 : Int32) (t1 : Option Nat) (S : gS) : Option (Int32 × gS) :=
  gB (gV [3] t1 S (fX6_bad t1 t0 (1 : Int32) (1 : Int32) S)) fun x1 S2 =>
  (if x1 = 0 then
  gB (gV [3] a0 S2 (fX6_starts a0 a1 S2)) fun x3 S4 =>
  gB (gV [3] a0 S4 (fX6_tellsNothing a0 S4)) fun x5 S6 =>
  fX6_choir_l42 gFU a0 S6
  else
  some ((0 : Int32), S2))
def fX6_choir (p0 : Option Nat) (p1 : Int32) (S : gS) : Option (Int32 × gS) :=
  (oPut [3] 0 p0 (.int ((0 : Int32))) S).bind fun S1 =>
  (oGetI [3] 1 p0 S1).bind fun x2 =>
  (if (fX6_in p1 (0 : Int32) x2) = 0 then
  fX6_choir_j23 p0 p1 (1 : Int32) p0 S1
  else
  fX6_choir_j23 p0 p1 (0 : Int32) p0 S1)
theorem wfX6_choir_j71 {r : Int32} {S1 : gS} (C : gCx p l R s m args meth c D K RX6 cX6_choir 2 (Option.some Jvm.ClassFile.FieldType.int) [] "choir" u0) (hRf : R.frames = 7) (hRl : R.locals = 232) : ∀ (a0 : Option Nat) (S : gS), fX6_choir_j71 a0 S = some (r, S1) → gW p l e R s m args below meth c D K 2 u0 (gEnd below args s D K u0 (.inl (some (.int r))) S1) S 71 [(0, va_rf a0)] [] := by
  intro a0 S hF
  unfold fX6_choir_j71 at hF
  refine g_aload_n C 0 dX6_choir_71 rfl ?_
  refine g_getI C dX6_choir_72 fd_48 (Or.inl q2033) (Or.inl rfl) hF (fun x1 hF => ?_)
  refine g_if_eq C 83 dX6_choir_75 rfl hF (fun c hF => ?_) (fun c hF => ?_)
  · refine g_aload_n C 0 dX6_choir_83 rfl ?_
    refine g_iconst (v := (-1 : Int32)) C dX6_choir_84 rfl ?_
    refine g_put C dX6_choir_85 fd_28 (Or.inl q2031) (Or.inl rfl) pf_0 rfl rfl hF (fun S2 hF => ?_)
    refine g_aload_n C 0 dX6_choir_88 rfl ?_
    obtain ⟨x3, S4, h, hF⟩ := gB_some hF
    obtain ⟨hi, h⟩ := gV_some h
    refine g_after (g_runV (n := 0) C dX6_choir_89 rfl hi (mX6_beginsAnew C.2.2.2.2.2.2.2.2.2.2.2.1 a0 S2 _ _ h) (lw_V q2017 q2019 qs44 q124 q2020) (by decide +kernel) ⟨by rw [hRf]; exact Nat.le_of_ble_eq_true rfl, by rw [hRl]; exact Nat.le_of_ble_eq_true rfl⟩ rfl rfl (gle gc_0 (by decide))) ?_
    refine g_aload_n C 0 dX6_choir_92 rfl ?_
    refine g_getR C dX6_choir_93 fd_15 (Or.inl q2040) (Or.inl rfl) hF (fun x5 hF => ?_)
    refine g_iconst (v := (0 : Int32)) C dX6_choir_96 rfl ?_
    refine g_iald C dX6_choir_97 hF (fun x6 hF => ?_)
    cases hF
    exact g_iret C dX6_choir_98 rfl rfl
  · refine g_aload_n C 0 dX6_choir_78 rfl ?_
    obtain ⟨x7, S8, h, hF⟩ := gB_some hF
    obtain ⟨hi, h⟩ := gV_some h
    refine g_after (g_runV (n := 0) C dX6_choir_79 rfl hi (mX6_ends C.2.2.2.2.2.2.2.2.2.2.2.1 a0 S _ _ h) (lw_V q2244 q2246 qs58 q124 q2247) (by decide +kernel) ⟨by rw [hRf]; exact Nat.le_of_ble_eq_true rfl, by rw [hRl]; exact Nat.le_of_ble_eq_true rfl⟩ rfl rfl (gle gc_0 (by decide))) ?_
    cases hF
    exact g_iret C dX6_choir_82 rfl rfl
theorem wfX6_choir_l42 {r : Int32} {S1 : gS} (C : gCx p l R s m args meth c D K RX6 cX6_choir 2 (Option.some Jvm.ClassFile.FieldType.int) [] "choir" u0) (hRf : R.frames = 7) (hRl : R.locals = 232) : ∀ (n : Nat) (a0 : Option Nat) (S : gS), fX6_choir_l42 n a0 S = some (r, S1) → gW p l e R s m args below meth c D K 2 u0 (gEnd below args s D K u0 (.inl (some (.int r))) S1) S 42 [(0, va_rf a0)] [] := by
  intro n
  induction n with
  | zero => intro a0 S hF; cases hF
  | succ n hih =>
    intro a0 S hF
    have hF : fX6_choir_i42 (fX6_choir_l42 n) a0 S = some (r, S1) := hF
    revert hF hih
    generalize fX6_choir_l42 n = ih
    intro hih hF
    unfold fX6_choir_i42 at hF
    refine g_aload_n C 0 dX6_choir_42 rfl ?_
    refine g_getI C dX6_choir_43 fd_48 (Or.inl q2033) (Or.inl rfl) hF (fun x1 hF => ?_)
    refine g_if_ne C 71 dX6_choir_46 rfl hF (fun c hF => ?_) (fun c hF => ?_)
    · exact g_sub [0] rfl (wfX6_choir_j71 C hRf hRl a0 S hF)
    · refine g_aload_n C 0 dX6_choir_49 rfl ?_
      refine g_getI C dX6_choir_50 fd_47 (Or.inl q2032) (Or.inl rfl) hF (fun x2 hF => ?_)
      refine g_aload_n C 0 dX6_choir_53 rfl ?_
      refine g_getI C dX6_choir_54 fd_46 (Or.inl q2030) (Or.inl rfl) hF (fun x3 hF => ?_)
      refine g_icmp_ge C 71 dX6_choir_57 rfl hF (fun c hF => ?_) (fun c hF => ?_)
      · exact g_sub [0] rfl (wfX6_choir_j71 C hRf hRl a0 S hF)
      · refine g_aload_n C 0 dX6_choir_60 rfl ?_
        obtain ⟨x4, S5, h, hF⟩ := gB_some hF
        obtain ⟨hi, h⟩ := gV_some h
        refine g_after (g_runV (n := 0) C dX6_choir_61 rfl hi (mX6_clause C.2.2.2.2.2.2.2.2.2.2.2.1 a0 S _ _ h) (lw_V q2199 q2201 qs50 q124 q2202) (by decide +kernel) ⟨by rw [hRf]; exact Nat.le_of_ble_eq_true rfl, by rw [hRl]; exact Nat.le_of_ble_eq_true rfl⟩ rfl rfl (gle gc_0 (by decide))) ?_
        refine g_aload_n C 0 dX6_choir_64 rfl ?_
        obtain ⟨x6, S7, h, hF⟩ := gB_some hF
        obtain ⟨hi, h⟩ := gV_some h
        refine g_after (g_runV (n := 0) C dX6_choir_65 rfl hi (mX6_blanks C.2.2.2.2.2.2.2.2.2.2.2.1 a0 S5 _ _ h) (lw_V q2191 q2193 qs48 q124 q2194) (by decide +kernel) ⟨by rw [hRf]; exact Nat.le_of_ble_eq_true rfl, by rw [hRl]; exact Nat.le_of_ble_eq_true rfl⟩ rfl rfl (gle gc_0 (by decide))) ?_
        refine g_goto C 42 dX6_choir_68 rfl ?_
        exact g_sub [0] rfl (hih a0 S7 hF)
theorem wfX6_choir_j23 {r : Int32} {S1 : gS} (C : gCx p l R s m args meth c D K RX6 cX6_choir 2 (Option.some Jvm.ClassFile.FieldType.int) [] "choir" u0) (hRf : R.frames = 7) (hRl : R.locals = 232) : ∀ (a0 : Option Nat) (a1 : Int32) (t0 : Int32) (t1 : Option Nat) (S : gS), fX6_choir_j23 a0 a1 t0 t1 S = some (r, S1) → gW p l e R s m args below meth c D K 2 u0 (gEnd below args s D K u0 (.inl (some (.int r))) S1) S 23 [(0, va_rf a0), (1, .int a1)] [.int t0, va_rf t1] := by
  intro a0 a1 t0 t1 S hF
  unfold fX6_choir_j23 at hF
  refine g_iconst (v := (1 : Int32)) C dX6_choir_23 rfl ?_
  refine g_iconst (v := (1 : Int32)) C dX6_choir_24 rfl ?_
  obtain ⟨x1, S2, h, hF⟩ := gB_some hF
  obtain ⟨hi, h⟩ := gV_some h
  refine g_after (g_runV (n := 3) C dX6_choir_25 rfl hi (mX6_bad C.2.2.2.2.2.2.2.2.2.2.2.1 t1 t0 (1 : Int32) (1 : Int32) S _ _ h) (lw_V q2183 q2185 qs46 q124 q2186) (by decide +kernel) ⟨by rw [hRf]; exact Nat.le_of_ble_eq_true rfl, by rw [hRl]; exact Nat.le_of_ble_eq_true rfl⟩ rfl rfl (gle gc_0 (by decide))) ?_
  refine g_if_eq C 33 dX6_choir_28 rfl hF (fun c hF => ?_) (fun c hF => ?_)
  · refine g_aload_n C 0 dX6_choir_33 rfl ?_
    refine g_iload_n C 1 dX6_choir_34 rfl ?_
    obtain ⟨x3, S4, h, hF⟩ := gB_some hF
    obtain ⟨hi, h⟩ := gV_some h
    refine g_after (g_runV (n := 1) C dX6_choir_35 rfl hi (mX6_starts C.2.2.2.2.2.2.2.2.2.2.2.1 a0 a1 S2 _ _ h) (lw_V q2187 q2189 qs47 q124 q2190) (by decide +kernel) ⟨by rw [hRf]; exact Nat.le_of_ble_eq_true rfl, by rw [hRl]; exact Nat.le_of_ble_eq_true rfl⟩ rfl rfl (gle gc_0 (by decide))) ?_
    refine g_aload_n C 0 dX6_choir_38 rfl ?_
    obtain ⟨x5, S6, h, hF⟩ := gB_some hF
    obtain ⟨hi, h⟩ := gV_some h
    refine g_after (g_runV (n := 0) C dX6_choir_39 rfl hi (mX6_tellsNothing C.2.2.2.2.2.2.2.2.2.2.2.1 a0 S4 _ _ h) (lw_V q2013 q2015 qs43 q124 q2016) (by decide +kernel) ⟨by rw [hRf]; exact Nat.le_of_ble_eq_true rfl, by rw [hRl]; exact Nat.le_of_ble_eq_true rfl⟩ rfl rfl (gle gc_0 (by decide))) ?_
    exact g_sub [0] rfl (wfX6_choir_l42 C hRf hRl gFU a0 S6 hF)
  · refine g_iconst (v := (0 : Int32)) C dX6_choir_31 rfl ?_
    cases hF
    exact g_iret C dX6_choir_32 rfl rfl
theorem mX6_choir {l : Launch} {D : gD} {K : gK} (hl : l.stackTraces = false) : ∀ (p0 : Option Nat) (p1 : Int32) (S : gS) (r : Int32) (S1 : gS), fX6_choir p0 p1 S = some (r, S1) → gMet l D K yX6_choir (ws_ yX6_choir cX6_choir 2 (Option.some Jvm.ClassFile.FieldType.int)) 7 232 [va_rf p0, .int p1] S (.inl (some (.int r))) S1 := by
  intro p0 p1 S r S1 hF
  unfold fX6_choir at hF
  refine gMet.of hl (by decide +kernel) rfl (gle (lgs_r (lgs_i lgs_0)) (by decide)) (fun p e s m below meth c R hRf hRl C _ => ?_)
  generalize hargs : ([va_rf p0, .int p1] : List Value).toArray = args at C ⊢
  generalize hu0 : S.2.2.1 = u0 at C ⊢
  rw [show lv_args 0 [va_rf p0, .int p1] = [(0, va_rf p0), (1, .int p1)] from (lva_r rfl (lva_i rfl lva_0))]
  refine g_aload_n C 0 dX6_choir_0 rfl ?_
  refine g_iconst (v := (0 : Int32)) C dX6_choir_1 rfl ?_
  refine g_put C dX6_choir_2 fd_44 (Or.inl q2028) (Or.inl rfl) pf_0 rfl rfl hF (fun S1 hF => ?_)
  refine g_aload_n C 0 dX6_choir_5 rfl ?_
  refine g_iload_n C 1 dX6_choir_6 rfl ?_
  refine g_iconst (v := (0 : Int32)) C dX6_choir_7 rfl ?_
  refine g_aload_n C 0 dX6_choir_8 rfl ?_
  refine g_getI C dX6_choir_9 fd_45 (Or.inl q2029) (Or.inl rfl) hF (fun x2 hF => ?_)
  refine g_after (g_runS (n := 3) C dX6_choir_12 (mX6_in C.2.2.2.2.2.2.2.2.2.2.2.1 p1 (0 : Int32) x2 S1 _ rfl) (lw_S q2180 q2181 q124 q2182) (by decide +kernel) ⟨by rw [hRf]; exact Nat.le_of_ble_eq_true rfl, by rw [hRl]; exact Nat.le_of_ble_eq_true rfl⟩ rfl rfl (gle (gc_r gc_0) (by decide))) ?_
  refine g_if_ne C 22 dX6_choir_15 rfl hF (fun c hF => ?_) (fun c hF => ?_)
  · refine g_iconst (v := (0 : Int32)) C dX6_choir_22 rfl ?_
    exact g_sub [0, 1] rfl (wfX6_choir_j23 C hRf hRl p0 p1 (0 : Int32) p0 S1 hF)
  · refine g_iconst (v := (1 : Int32)) C dX6_choir_18 rfl ?_
    refine g_goto C 23 dX6_choir_19 rfl ?_
    exact g_sub [0, 1] rfl (wfX6_choir_j23 C hRf hRl p0 p1 (1 : Int32) p0 S1 hF)
/-! VowelChoirModel.opensOne()Z -/
def fX6_opensOne_j45 (a0 : Option Nat) (S : gS) : Option (Int32 × gS) :=
  (oGetI [3] 5 a0 S).bind fun x1 =>
  (if x1 = 0 then
  some ((1 : Int32), S)
  else
  some ((0 : Int32), S))
def fX6_opensOne_j28 (a0 : Option Nat) (S : gS) : Option (Int32 × gS) :=
  (oGetI [3] 5 a0 S).bind fun x1 =>
  (if x1 = 0 then
  (oGetI [3] 8 a0 S).bind fun x2 =>
  (oPut [3] 8 a0 (.int (x2 + (1 : Int32))) S).bind fun S3 =>
  fX6_opensOne_j45 a0 S3
  else
  fX6_opensOne_j45 a0 S)
def fX6_opensOne (p0 : Option Nat) (S : gS) : Option (Int32 × gS) :=
  (oGetI [3] 5 p0 S).bind fun x1 =>
  (if x1 = 0 then
  (oGetI [3] 8 p0 S).bind fun x2 =>
  (if x2 = (6 : Int32) then
  (oGetI [3] 4 p0 S).bind fun x3 =>
  gB (gV [3] p0 S (fX6_wrong p0 (3 : Int32) x3 S)) fun x4 S5 =>
  fX6_opensOne_j45 p0 S5
  else
  fX6_opensOne_j28 p0 S)
  else
  fX6_opensOne_j28 p0 S)
theorem wfX6_opensOne_j45 {r : Int32} {S1 : gS} (C : gCx p l R s m args meth c D K RX6 cX6_opensOne 1 (Option.some Jvm.ClassFile.FieldType.boolean) [] "opensOne" u0) (hRf : R.frames = 2) (hRl : R.locals = 122) : ∀ (a0 : Option Nat) (S : gS), fX6_opensOne_j45 a0 S = some (r, S1) → gW p l e R s m args below meth c D K 1 u0 (gEnd below args s D K u0 (.inl (some (.int r))) S1) S 45 [(0, va_rf a0)] [] := by
  intro a0 S hF
  unfold fX6_opensOne_j45 at hF
  refine g_aload_n C 0 dX6_opensOne_45 rfl ?_
  refine g_getI C dX6_opensOne_46 fd_48 (Or.inl q2033) (Or.inl rfl) hF (fun x1 hF => ?_)
  refine g_if_ne C 56 dX6_opensOne_49 rfl hF (fun c hF => ?_) (fun c hF => ?_)
  · refine g_iconst (v := (0 : Int32)) C dX6_opensOne_56 rfl ?_
    cases hF
    exact g_zret (ty := .boolean) C (rfl) dX6_opensOne_57 rfl rfl
  · refine g_iconst (v := (1 : Int32)) C dX6_opensOne_52 rfl ?_
    refine g_goto C 57 dX6_opensOne_53 rfl ?_
    cases hF
    exact g_zret (ty := .boolean) C (rfl) dX6_opensOne_57 rfl rfl
theorem wfX6_opensOne_j28 {r : Int32} {S1 : gS} (C : gCx p l R s m args meth c D K RX6 cX6_opensOne 1 (Option.some Jvm.ClassFile.FieldType.boolean) [] "opensOne" u0) (hRf : R.frames = 2) (hRl : R.locals = 122) : ∀ (a0 : Option Nat) (S : gS), fX6_opensOne_j28 a0 S = some (r, S1) → gW p l e R s m args below meth c D K 1 u0 (gEnd below args s D K u0 (.inl (some (.int r))) S1) S 28 [(0, va_rf a0)] [] := by
  intro a0 S hF
  unfold fX6_opensOne_j28 at hF
  refine g_aload_n C 0 dX6_opensOne_28 rfl ?_
  refine g_getI C dX6_opensOne_29 fd_48 (Or.inl q2033) (Or.inl rfl) hF (fun x1 hF => ?_)
  refine g_if_ne C 45 dX6_opensOne_32 rfl hF (fun c hF => ?_) (fun c hF => ?_)
  · exact g_sub [0] rfl (wfX6_opensOne_j45 C hRf hRl a0 S hF)
  · refine g_aload_n C 0 dX6_opensOne_35 rfl ?_
    refine g_dup C dX6_opensOne_36 (g_cr _) ?_
    refine g_getI C dX6_opensOne_37 fd_51 (Or.inl q2036) (Or.inl rfl) hF (fun x2 hF => ?_)
    refine g_iconst (v := (1 : Int32)) C dX6_opensOne_40 rfl ?_
    refine g_iadd C dX6_opensOne_41 ?_
    refine g_put C dX6_opensOne_42 fd_51 (Or.inl q2036) (Or.inl rfl) pf_0 rfl rfl hF (fun S3 hF => ?_)
    exact g_sub [0] rfl (wfX6_opensOne_j45 C hRf hRl a0 S3 hF)
theorem mX6_opensOne {l : Launch} {D : gD} {K : gK} (hl : l.stackTraces = false) : ∀ (p0 : Option Nat) (S : gS) (r : Int32) (S1 : gS), fX6_opensOne p0 S = some (r, S1) → gMet l D K yX6_opensOne (ws_ yX6_opensOne cX6_opensOne 1 (Option.some Jvm.ClassFile.FieldType.boolean)) 2 122 [va_rf p0] S (.inl (some (.int r))) S1 := by
  intro p0 S r S1 hF
  unfold fX6_opensOne at hF
  refine gMet.of hl (by decide +kernel) rfl (gle (lgs_r lgs_0) (by decide)) (fun p e s m below meth c R hRf hRl C _ => ?_)
  generalize hargs : ([va_rf p0] : List Value).toArray = args at C ⊢
  generalize hu0 : S.2.2.1 = u0 at C ⊢
  rw [show lv_args 0 [va_rf p0] = [(0, va_rf p0)] from (lva_r rfl lva_0)]
  refine g_aload_n C 0 dX6_opensOne_0 rfl ?_
  refine g_getI C dX6_opensOne_1 fd_48 (Or.inl q2033) (Or.inl rfl) hF (fun x1 hF => ?_)
  refine g_if_ne C 28 dX6_opensOne_4 rfl hF (fun c hF => ?_) (fun c hF => ?_)
  · exact g_sub [0] rfl (wfX6_opensOne_j28 C hRf hRl p0 S hF)
  · refine g_aload_n C 0 dX6_opensOne_7 rfl ?_
    refine g_getI C dX6_opensOne_8 fd_51 (Or.inl q2036) (Or.inl rfl) hF (fun x2 hF => ?_)
    refine g_bipush (v := (6 : Int32)) C dX6_opensOne_11 rfl ?_
    refine g_icmp_ne C 28 dX6_opensOne_13 rfl hF (fun c hF => ?_) (fun c hF => ?_)
    · exact g_sub [0] rfl (wfX6_opensOne_j28 C hRf hRl p0 S hF)
    · refine g_aload_n C 0 dX6_opensOne_16 rfl ?_
      refine g_iconst (v := (3 : Int32)) C dX6_opensOne_17 rfl ?_
      refine g_aload_n C 0 dX6_opensOne_18 rfl ?_
      refine g_getI C dX6_opensOne_19 fd_47 (Or.inl q2032) (Or.inl rfl) hF (fun x3 hF => ?_)
      obtain ⟨x4, S5, h, hF⟩ := gB_some hF
      obtain ⟨hi, h⟩ := gV_some h
      refine g_after (g_runV (n := 2) C dX6_opensOne_22 rfl hi (mX6_wrong C.2.2.2.2.2.2.2.2.2.2.2.1 p0 (3 : Int32) x3 S _ _ h) (lw_V q2221 q2223 qs54 q124 q2224) (by decide +kernel) ⟨by rw [hRf]; exact Nat.le_of_ble_eq_true rfl, by rw [hRl]; exact Nat.le_of_ble_eq_true rfl⟩ rfl rfl (gle gc_0 (by decide))) ?_
      refine g_goto C 45 dX6_opensOne_25 rfl ?_
      exact g_sub [0] rfl (wfX6_opensOne_j45 C hRf hRl p0 S5 hF)
/-! VowelChoirModel.notes(II)V -/
def fX6_notes (p0 : Option Nat) (p1 : Int32) (p2 : Int32) (S : gS) : Option (Unit × gS) :=
  (oGetI [3] 5 p0 S).bind fun x1 =>
  (if x1 = 0 then
  (oGetR [3] 22 p0 S).bind fun x2 =>
  (oGetI [3] 20 p0 S).bind fun x3 =>
  (oLdR 5 x2 x3 S).bind fun x4 =>
  (oStI 0 x4 (0 : Int32) p1 S).bind fun S5 =>
  (oGetR [3] 22 p0 S5).bind fun x6 =>
  (oGetI [3] 20 p0 S5).bind fun x7 =>
  (oLdR 5 x6 x7 S5).bind fun x8 =>
  (oStI 0 x8 (1 : Int32) p2 S5).bind fun S9 =>
  (oGetI [3] 20 p0 S9).bind fun x10 =>
  (oPut [3] 20 p0 (.int (x10 + (1 : Int32))) S9).bind fun S11 =>
  some ((), S11)
  else
  some ((), S))
theorem mX6_notes {l : Launch} {D : gD} {K : gK} (hl : l.stackTraces = false) : ∀ (p0 : Option Nat) (p1 : Int32) (p2 : Int32) (S : gS) (r : Unit) (S1 : gS), fX6_notes p0 p1 p2 S = some (r, S1) → gMet l D K yX6_notes (ws_ yX6_notes cX6_notes 3 (Option.none : Option Jvm.ClassFile.FieldType)) 1 100 [va_rf p0, .int p1, .int p2] S (.inl none) S1 := by
  intro p0 p1 p2 S r S1 hF
  unfold fX6_notes at hF
  refine gMet.of hl (by decide +kernel) rfl (gle (lgs_r (lgs_i (lgs_i lgs_0))) (by decide)) (fun p e s m below meth c R hRf hRl C _ => ?_)
  generalize hargs : ([va_rf p0, .int p1, .int p2] : List Value).toArray = args at C ⊢
  generalize hu0 : S.2.2.1 = u0 at C ⊢
  rw [show lv_args 0 [va_rf p0, .int p1, .int p2] = [(0, va_rf p0), (1, .int p1), (2, .int p2)] from (lva_r rfl (lva_i rfl (lva_i rfl lva_0)))]
  refine g_aload_n C 0 dX6_notes_0 rfl ?_
  refine g_getI C dX6_notes_1 fd_48 (Or.inl q2033) (Or.inl rfl) hF (fun x1 hF => ?_)
  refine g_if_eq C 8 dX6_notes_4 rfl hF (fun c hF => ?_) (fun c hF => ?_)
  · refine g_aload_n C 0 dX6_notes_8 rfl ?_
    refine g_getR C dX6_notes_9 fd_32 (Or.inl q2050) (Or.inl rfl) hF (fun x2 hF => ?_)
    refine g_aload_n C 0 dX6_notes_12 rfl ?_
    refine g_getI C dX6_notes_13 fd_52 (Or.inl q2048) (Or.inl rfl) hF (fun x3 hF => ?_)
    refine g_aald C (kd := 5) rfl dX6_notes_16 hF (fun x4 hF => ?_)
    refine g_iconst (v := (0 : Int32)) C dX6_notes_17 rfl ?_
    refine g_iload_n C 1 dX6_notes_18 rfl ?_
    refine g_iast C dX6_notes_19 hF (fun S5 hF => ?_)
    refine g_aload_n C 0 dX6_notes_20 rfl ?_
    refine g_getR C dX6_notes_21 fd_32 (Or.inl q2050) (Or.inl rfl) hF (fun x6 hF => ?_)
    refine g_aload_n C 0 dX6_notes_24 rfl ?_
    refine g_getI C dX6_notes_25 fd_52 (Or.inl q2048) (Or.inl rfl) hF (fun x7 hF => ?_)
    refine g_aald C (kd := 5) rfl dX6_notes_28 hF (fun x8 hF => ?_)
    refine g_iconst (v := (1 : Int32)) C dX6_notes_29 rfl ?_
    refine g_iload_n C 2 dX6_notes_30 rfl ?_
    refine g_iast C dX6_notes_31 hF (fun S9 hF => ?_)
    refine g_aload_n C 0 dX6_notes_32 rfl ?_
    refine g_dup C dX6_notes_33 (g_cr _) ?_
    refine g_getI C dX6_notes_34 fd_52 (Or.inl q2048) (Or.inl rfl) hF (fun x10 hF => ?_)
    refine g_iconst (v := (1 : Int32)) C dX6_notes_37 rfl ?_
    refine g_iadd C dX6_notes_38 ?_
    refine g_put C dX6_notes_39 fd_52 (Or.inl q2048) (Or.inl rfl) pf_0 rfl rfl hF (fun S11 hF => ?_)
    cases hF
    exact g_vret C dX6_notes_42 rfl rfl
  · cases hF
    exact g_vret C dX6_notes_7 rfl rfl
/-! VowelChoirModel.isNext(IIIIII)Z -/
def fX6_isNext (p0 : Option Nat) (p1 : Int32) (p2 : Int32) (p3 : Int32) (p4 : Int32) (p5 : Int32) (p6 : Int32) (S : gS) : Option (Int32 × gS) :=
  gB (gV [3] p0 S (fX6_isWord p0 p1 p2 p3 p4 p5 p6 S)) fun x1 S2 =>
  (if x1 = 0 then
  (if (x1 = 0 ∨ x1 = 1) then some (x1, S2) else none)
  else
  gB (gV [3] p0 S2 (fX6_skipWord p0 S2)) fun x3 S4 =>
  (if (x1 = 0 ∨ x1 = 1) then some (x1, S4) else none))
theorem mX6_isNext {l : Launch} {D : gD} {K : gK} (hl : l.stackTraces = false) : ∀ (p0 : Option Nat) (p1 : Int32) (p2 : Int32) (p3 : Int32) (p4 : Int32) (p5 : Int32) (p6 : Int32) (S : gS) (r : Int32) (S1 : gS), fX6_isNext p0 p1 p2 p3 p4 p5 p6 S = some (r, S1) → gMet l D K yX6_isNext (ws_ yX6_isNext cX6_isNext 8 (Option.some Jvm.ClassFile.FieldType.boolean)) 5 189 [va_rf p0, .int p1, .int p2, .int p3, .int p4, .int p5, .int p6] S (.inl (some (.int r))) S1 := by
  intro p0 p1 p2 p3 p4 p5 p6 S r S1 hF
  unfold fX6_isNext at hF
  refine gMet.of hl (by decide +kernel) rfl (gle (lgs_r (lgs_i (lgs_i (lgs_i (lgs_i (lgs_i (lgs_i lgs_0))))))) (by decide)) (fun p e s m below meth c R hRf hRl C _ => ?_)
  generalize hargs : ([va_rf p0, .int p1, .int p2, .int p3, .int p4, .int p5, .int p6] : List Value).toArray = args at C ⊢
  generalize hu0 : S.2.2.1 = u0 at C ⊢
  rw [show lv_args 0 [va_rf p0, .int p1, .int p2, .int p3, .int p4, .int p5, .int p6] = [(0, va_rf p0), (1, .int p1), (2, .int p2), (3, .int p3), (4, .int p4), (5, .int p5), (6, .int p6)] from (lva_r rfl (lva_i rfl (lva_i rfl (lva_i rfl (lva_i rfl (lva_i rfl (lva_i rfl lva_0)))))))]
  refine g_aload_n C 0 dX6_isNext_0 rfl ?_
  refine g_iload_n C 1 dX6_isNext_1 rfl ?_
  refine g_iload_n C 2 dX6_isNext_2 rfl ?_
  refine g_iload_n C 3 dX6_isNext_3 rfl ?_
  refine g_iload C 4 dX6_isNext_4 rfl ?_
  refine g_iload C 5 dX6_isNext_6 rfl ?_
  refine g_iload C 6 dX6_isNext_8 rfl ?_
  obtain ⟨x1, S2, h, hF⟩ := gB_some hF
  obtain ⟨hi, h⟩ := gV_some h
  refine g_after (g_runV (n := 6) C dX6_isNext_10 rfl hi (mX6_isWord C.2.2.2.2.2.2.2.2.2.2.2.1 p0 p1 p2 p3 p4 p5 p6 S _ _ h) (lw_V q2207 q2209 qs52 q124 q2210) (by decide +kernel) ⟨by rw [hRf]; exact Nat.le_of_ble_eq_true rfl, by rw [hRl]; exact Nat.le_of_ble_eq_true rfl⟩ rfl rfl (gle gc_0 (by decide))) ?_
  refine g_istore C dX6_isNext_13 (by decide) rfl ?_
  refine g_iload C 0 dX6_isNext_15 rfl ?_
  refine g_if_eq C 24 dX6_isNext_17 rfl hF (fun c hF => ?_) (fun c hF => ?_)
  · refine g_iload C 0 dX6_isNext_24 rfl ?_
    obtain ⟨hz, hF⟩ := gIf hF
    cases hF
    exact g_zret (ty := .boolean) C (nrZ hz) dX6_isNext_26 rfl rfl
  · refine g_aload_n C 1 dX6_isNext_20 rfl ?_
    obtain ⟨x3, S4, h, hF⟩ := gB_some hF
    obtain ⟨hi, h⟩ := gV_some h
    refine g_after (g_runV (n := 0) C dX6_isNext_21 rfl hi (mX6_skipWord C.2.2.2.2.2.2.2.2.2.2.2.1 p0 S2 _ _ h) (lw_V q2228 q2230 qs55 q124 q2231) (by decide +kernel) ⟨by rw [hRf]; exact Nat.le_of_ble_eq_true rfl, by rw [hRl]; exact Nat.le_of_ble_eq_true rfl⟩ rfl rfl (gle gc_0 (by decide))) ?_
    refine g_iload C 0 dX6_isNext_24 rfl ?_
    obtain ⟨hz, hF⟩ := gIf hF
    cases hF
    exact g_zret (ty := .boolean) C (nrZ hz) dX6_isNext_26 rfl rfl
/-! VowelChoirModel.knownHere()I -/
def fX6_knownHere (p0 : Option Nat) (S : gS) : Option (Int32 × gS) :=
  gB (gV [3] p0 S (fX6_isNext p0 (12 : Int32) (5 : Int32) (14 : Int32) (7 : Int32) (20 : Int32) (8 : Int32) S)) fun x1 S2 =>
  (if x1 = 0 then
  gB (gV [3] p0 S2 (fX6_isNext p0 (16 : Int32) (1 : Int32) (25 : Int32) (0 : Int32) (0 : Int32) (0 : Int32) S2)) fun x3 S4 =>
  (if x3 = 0 then
  gB (gV [3] p0 S4 (fX6_isNext p0 (12 : Int32) (5 : Int32) (6 : Int32) (20 : Int32) (0 : Int32) (0 : Int32) S4)) fun x5 S6 =>
  (if x5 = 0 then
  gB (gV [3] p0 S6 (fX6_isNext p0 (19 : Int32) (21 : Int32) (14 : Int32) (7 : Int32) (0 : Int32) (0 : Int32) S6)) fun x7 S8 =>
  (if x7 = 0 then
  gB (gV [3] p0 S8 (fX6_isNext p0 (14 : Int32) (15 : Int32) (20 : Int32) (5 : Int32) (0 : Int32) (0 : Int32) S8)) fun x9 S10 =>
  (if x9 = 0 then
  gB (gV [3] p0 S10 (fX6_isNext p0 (22 : Int32) (15 : Int32) (23 : Int32) (5 : Int32) (12 : Int32) (0 : Int32) S10)) fun x11 S12 =>
  (if x11 = 0 then
  gB (gV [3] p0 S12 (fX6_isNext p0 (4 : Int32) (1 : Int32) (25 : Int32) (0 : Int32) (0 : Int32) (0 : Int32) S12)) fun x13 S14 =>
  (if x13 = 0 then
  gB (gV [3] p0 S14 (fX6_isNext p0 (19 : Int32) (9 : Int32) (14 : Int32) (7 : Int32) (5 : Int32) (18 : Int32) S14)) fun x15 S16 =>
  (if x15 = 0 then
  some ((-1 : Int32), S16)
  else
  some ((7 : Int32), S16))
  else
  some ((6 : Int32), S14))
  else
  some ((5 : Int32), S12))
  else
  some ((4 : Int32), S10))
  else
  some ((3 : Int32), S8))
  else
  some ((2 : Int32), S6))
  else
  some ((1 : Int32), S4))
  else
  some ((0 : Int32), S2))
theorem mX6_knownHere {l : Launch} {D : gD} {K : gK} (hl : l.stackTraces = false) : ∀ (p0 : Option Nat) (S : gS) (r : Int32) (S1 : gS), fX6_knownHere p0 S = some (r, S1) → gMet l D K yX6_knownHere (ws_ yX6_knownHere cX6_knownHere 1 (Option.some Jvm.ClassFile.FieldType.int)) 6 216 [va_rf p0] S (.inl (some (.int r))) S1 := by
  intro p0 S r S1 hF
  unfold fX6_knownHere at hF
  refine gMet.of hl (by decide +kernel) rfl (gle (lgs_r lgs_0) (by decide)) (fun p e s m below meth c R hRf hRl C _ => ?_)
  generalize hargs : ([va_rf p0] : List Value).toArray = args at C ⊢
  generalize hu0 : S.2.2.1 = u0 at C ⊢
  rw [show lv_args 0 [va_rf p0] = [(0, va_rf p0)] from (lva_r rfl lva_0)]
  refine g_aload_n C 0 dX6_knownHere_0 rfl ?_
  refine g_bipush (v := (12 : Int32)) C dX6_knownHere_1 rfl ?_
  refine g_iconst (v := (5 : Int32)) C dX6_knownHere_3 rfl ?_
  refine g_bipush (v := (14 : Int32)) C dX6_knownHere_4 rfl ?_
  refine g_bipush (v := (7 : Int32)) C dX6_knownHere_6 rfl ?_
  refine g_bipush (v := (20 : Int32)) C dX6_knownHere_8 rfl ?_
  refine g_bipush (v := (8 : Int32)) C dX6_knownHere_10 rfl ?_
  obtain ⟨x1, S2, h, hF⟩ := gB_some hF
  obtain ⟨hi, h⟩ := gV_some h
  refine g_after (g_runV (n := 6) C dX6_knownHere_12 rfl hi (mX6_isNext C.2.2.2.2.2.2.2.2.2.2.2.1 p0 (12 : Int32) (5 : Int32) (14 : Int32) (7 : Int32) (20 : Int32) (8 : Int32) S _ _ h) (lw_V q2276 q2278 qs65 q124 q2279) (by decide +kernel) ⟨by rw [hRf]; exact Nat.le_of_ble_eq_true rfl, by rw [hRl]; exact Nat.le_of_ble_eq_true rfl⟩ rfl rfl (gle gc_0 (by decide))) ?_
  refine g_if_eq C 20 dX6_knownHere_15 rfl hF (fun c hF => ?_) (fun c hF => ?_)
  · refine g_aload_n C 0 dX6_knownHere_20 rfl ?_
    refine g_bipush (v := (16 : Int32)) C dX6_knownHere_21 rfl ?_
    refine g_iconst (v := (1 : Int32)) C dX6_knownHere_23 rfl ?_
    refine g_bipush (v := (25 : Int32)) C dX6_knownHere_24 rfl ?_
    refine g_iconst (v := (0 : Int32)) C dX6_knownHere_26 rfl ?_
    refine g_iconst (v := (0 : Int32)) C dX6_knownHere_27 rfl ?_
    refine g_iconst (v := (0 : Int32)) C dX6_knownHere_28 rfl ?_
    obtain ⟨x3, S4, h, hF⟩ := gB_some hF
    obtain ⟨hi, h⟩ := gV_some h
    refine g_after (g_runV (n := 6) C dX6_knownHere_29 rfl hi (mX6_isNext C.2.2.2.2.2.2.2.2.2.2.2.1 p0 (16 : Int32) (1 : Int32) (25 : Int32) (0 : Int32) (0 : Int32) (0 : Int32) S2 _ _ h) (lw_V q2276 q2278 qs65 q124 q2279) (by decide +kernel) ⟨by rw [hRf]; exact Nat.le_of_ble_eq_true rfl, by rw [hRl]; exact Nat.le_of_ble_eq_true rfl⟩ rfl rfl (gle gc_0 (by decide))) ?_
    refine g_if_eq C 37 dX6_knownHere_32 rfl hF (fun c hF => ?_) (fun c hF => ?_)
    · refine g_aload_n C 0 dX6_knownHere_37 rfl ?_
      refine g_bipush (v := (12 : Int32)) C dX6_knownHere_38 rfl ?_
      refine g_iconst (v := (5 : Int32)) C dX6_knownHere_40 rfl ?_
      refine g_bipush (v := (6 : Int32)) C dX6_knownHere_41 rfl ?_
      refine g_bipush (v := (20 : Int32)) C dX6_knownHere_43 rfl ?_
      refine g_iconst (v := (0 : Int32)) C dX6_knownHere_45 rfl ?_
      refine g_iconst (v := (0 : Int32)) C dX6_knownHere_46 rfl ?_
      obtain ⟨x5, S6, h, hF⟩ := gB_some hF
      obtain ⟨hi, h⟩ := gV_some h
      refine g_after (g_runV (n := 6) C dX6_knownHere_47 rfl hi (mX6_isNext C.2.2.2.2.2.2.2.2.2.2.2.1 p0 (12 : Int32) (5 : Int32) (6 : Int32) (20 : Int32) (0 : Int32) (0 : Int32) S4 _ _ h) (lw_V q2276 q2278 qs65 q124 q2279) (by decide +kernel) ⟨by rw [hRf]; exact Nat.le_of_ble_eq_true rfl, by rw [hRl]; exact Nat.le_of_ble_eq_true rfl⟩ rfl rfl (gle gc_0 (by decide))) ?_
      refine g_if_eq C 55 dX6_knownHere_50 rfl hF (fun c hF => ?_) (fun c hF => ?_)
      · refine g_aload_n C 0 dX6_knownHere_55 rfl ?_
        refine g_bipush (v := (19 : Int32)) C dX6_knownHere_56 rfl ?_
        refine g_bipush (v := (21 : Int32)) C dX6_knownHere_58 rfl ?_
        refine g_bipush (v := (14 : Int32)) C dX6_knownHere_60 rfl ?_
        refine g_bipush (v := (7 : Int32)) C dX6_knownHere_62 rfl ?_
        refine g_iconst (v := (0 : Int32)) C dX6_knownHere_64 rfl ?_
        refine g_iconst (v := (0 : Int32)) C dX6_knownHere_65 rfl ?_
        obtain ⟨x7, S8, h, hF⟩ := gB_some hF
        obtain ⟨hi, h⟩ := gV_some h
        refine g_after (g_runV (n := 6) C dX6_knownHere_66 rfl hi (mX6_isNext C.2.2.2.2.2.2.2.2.2.2.2.1 p0 (19 : Int32) (21 : Int32) (14 : Int32) (7 : Int32) (0 : Int32) (0 : Int32) S6 _ _ h) (lw_V q2276 q2278 qs65 q124 q2279) (by decide +kernel) ⟨by rw [hRf]; exact Nat.le_of_ble_eq_true rfl, by rw [hRl]; exact Nat.le_of_ble_eq_true rfl⟩ rfl rfl (gle gc_0 (by decide))) ?_
        refine g_if_eq C 74 dX6_knownHere_69 rfl hF (fun c hF => ?_) (fun c hF => ?_)
        · refine g_aload_n C 0 dX6_knownHere_74 rfl ?_
          refine g_bipush (v := (14 : Int32)) C dX6_knownHere_75 rfl ?_
          refine g_bipush (v := (15 : Int32)) C dX6_knownHere_77 rfl ?_
          refine g_bipush (v := (20 : Int32)) C dX6_knownHere_79 rfl ?_
          refine g_iconst (v := (5 : Int32)) C dX6_knownHere_81 rfl ?_
          refine g_iconst (v := (0 : Int32)) C dX6_knownHere_82 rfl ?_
          refine g_iconst (v := (0 : Int32)) C dX6_knownHere_83 rfl ?_
          obtain ⟨x9, S10, h, hF⟩ := gB_some hF
          obtain ⟨hi, h⟩ := gV_some h
          refine g_after (g_runV (n := 6) C dX6_knownHere_84 rfl hi (mX6_isNext C.2.2.2.2.2.2.2.2.2.2.2.1 p0 (14 : Int32) (15 : Int32) (20 : Int32) (5 : Int32) (0 : Int32) (0 : Int32) S8 _ _ h) (lw_V q2276 q2278 qs65 q124 q2279) (by decide +kernel) ⟨by rw [hRf]; exact Nat.le_of_ble_eq_true rfl, by rw [hRl]; exact Nat.le_of_ble_eq_true rfl⟩ rfl rfl (gle gc_0 (by decide))) ?_
          refine g_if_eq C 92 dX6_knownHere_87 rfl hF (fun c hF => ?_) (fun c hF => ?_)
          · refine g_aload_n C 0 dX6_knownHere_92 rfl ?_
            refine g_bipush (v := (22 : Int32)) C dX6_knownHere_93 rfl ?_
            refine g_bipush (v := (15 : Int32)) C dX6_knownHere_95 rfl ?_
            refine g_bipush (v := (23 : Int32)) C dX6_knownHere_97 rfl ?_
            refine g_iconst (v := (5 : Int32)) C dX6_knownHere_99 rfl ?_
            refine g_bipush (v := (12 : Int32)) C dX6_knownHere_100 rfl ?_
            refine g_iconst (v := (0 : Int32)) C dX6_knownHere_102 rfl ?_
            obtain ⟨x11, S12, h, hF⟩ := gB_some hF
            obtain ⟨hi, h⟩ := gV_some h
            refine g_after (g_runV (n := 6) C dX6_knownHere_103 rfl hi (mX6_isNext C.2.2.2.2.2.2.2.2.2.2.2.1 p0 (22 : Int32) (15 : Int32) (23 : Int32) (5 : Int32) (12 : Int32) (0 : Int32) S10 _ _ h) (lw_V q2276 q2278 qs65 q124 q2279) (by decide +kernel) ⟨by rw [hRf]; exact Nat.le_of_ble_eq_true rfl, by rw [hRl]; exact Nat.le_of_ble_eq_true rfl⟩ rfl rfl (gle gc_0 (by decide))) ?_
            refine g_if_eq C 111 dX6_knownHere_106 rfl hF (fun c hF => ?_) (fun c hF => ?_)
            · refine g_aload_n C 0 dX6_knownHere_111 rfl ?_
              refine g_iconst (v := (4 : Int32)) C dX6_knownHere_112 rfl ?_
              refine g_iconst (v := (1 : Int32)) C dX6_knownHere_113 rfl ?_
              refine g_bipush (v := (25 : Int32)) C dX6_knownHere_114 rfl ?_
              refine g_iconst (v := (0 : Int32)) C dX6_knownHere_116 rfl ?_
              refine g_iconst (v := (0 : Int32)) C dX6_knownHere_117 rfl ?_
              refine g_iconst (v := (0 : Int32)) C dX6_knownHere_118 rfl ?_
              obtain ⟨x13, S14, h, hF⟩ := gB_some hF
              obtain ⟨hi, h⟩ := gV_some h
              refine g_after (g_runV (n := 6) C dX6_knownHere_119 rfl hi (mX6_isNext C.2.2.2.2.2.2.2.2.2.2.2.1 p0 (4 : Int32) (1 : Int32) (25 : Int32) (0 : Int32) (0 : Int32) (0 : Int32) S12 _ _ h) (lw_V q2276 q2278 qs65 q124 q2279) (by decide +kernel) ⟨by rw [hRf]; exact Nat.le_of_ble_eq_true rfl, by rw [hRl]; exact Nat.le_of_ble_eq_true rfl⟩ rfl rfl (gle gc_0 (by decide))) ?_
              refine g_if_eq C 128 dX6_knownHere_122 rfl hF (fun c hF => ?_) (fun c hF => ?_)
              · refine g_aload_n C 0 dX6_knownHere_128 rfl ?_
                refine g_bipush (v := (19 : Int32)) C dX6_knownHere_129 rfl ?_
                refine g_bipush (v := (9 : Int32)) C dX6_knownHere_131 rfl ?_
                refine g_bipush (v := (14 : Int32)) C dX6_knownHere_133 rfl ?_
                refine g_bipush (v := (7 : Int32)) C dX6_knownHere_135 rfl ?_
                refine g_iconst (v := (5 : Int32)) C dX6_knownHere_137 rfl ?_
                refine g_bipush (v := (18 : Int32)) C dX6_knownHere_138 rfl ?_
                obtain ⟨x15, S16, h, hF⟩ := gB_some hF
                obtain ⟨hi, h⟩ := gV_some h
                refine g_after (g_runV (n := 6) C dX6_knownHere_140 rfl hi (mX6_isNext C.2.2.2.2.2.2.2.2.2.2.2.1 p0 (19 : Int32) (9 : Int32) (14 : Int32) (7 : Int32) (5 : Int32) (18 : Int32) S14 _ _ h) (lw_V q2276 q2278 qs65 q124 q2279) (by decide +kernel) ⟨by rw [hRf]; exact Nat.le_of_ble_eq_true rfl, by rw [hRl]; exact Nat.le_of_ble_eq_true rfl⟩ rfl rfl (gle gc_0 (by decide))) ?_
                refine g_if_eq C 151 dX6_knownHere_143 rfl hF (fun c hF => ?_) (fun c hF => ?_)
                · refine g_iconst (v := (-1 : Int32)) C dX6_knownHere_151 rfl ?_
                  cases hF
                  exact g_iret C dX6_knownHere_152 rfl rfl
                · refine g_bipush (v := (7 : Int32)) C dX6_knownHere_146 rfl ?_
                  refine g_goto C 152 dX6_knownHere_148 rfl ?_
                  cases hF
                  exact g_iret C dX6_knownHere_152 rfl rfl
              · refine g_bipush (v := (6 : Int32)) C dX6_knownHere_125 rfl ?_
                cases hF
                exact g_iret C dX6_knownHere_127 rfl rfl
            · refine g_iconst (v := (5 : Int32)) C dX6_knownHere_109 rfl ?_
              cases hF
              exact g_iret C dX6_knownHere_110 rfl rfl
          · refine g_iconst (v := (4 : Int32)) C dX6_knownHere_90 rfl ?_
            cases hF
            exact g_iret C dX6_knownHere_91 rfl rfl
        · refine g_iconst (v := (3 : Int32)) C dX6_knownHere_72 rfl ?_
          cases hF
          exact g_iret C dX6_knownHere_73 rfl rfl
      · refine g_iconst (v := (2 : Int32)) C dX6_knownHere_53 rfl ?_
        cases hF
        exact g_iret C dX6_knownHere_54 rfl rfl
    · refine g_iconst (v := (1 : Int32)) C dX6_knownHere_35 rfl ?_
      cases hF
      exact g_iret C dX6_knownHere_36 rfl rfl
  · refine g_iconst (v := (0 : Int32)) C dX6_knownHere_18 rfl ?_
    cases hF
    exact g_iret C dX6_knownHere_19 rfl rfl
/-! VowelChoirModel.one()V -/
def fX6_one_j56 (rec : (Option Nat) → gS → Option (Unit × gS)) (a0 : Option Nat) (t0 : Int32) (S : gS) : Option (Unit × gS) :=
  (if t0 = (-1 : Int32) then
  (oGetI [3] 4 a0 S).bind fun x1 =>
  (gV [3] a0 S (fX6_byteAt a0 x1 S)).bind fun x2 =>
  (if x2 = (40 : Int32) then
  gB (gV [3] a0 S (fX6_opensOne a0 S)) fun x11 S12 =>
  (if x11 = 0 then
  some ((), S12)
  else
  (oGetI [3] 4 a0 S12).bind fun x13 =>
  (oPut [3] 4 a0 (.int (x13 + (1 : Int32))) S12).bind fun S14 =>
  gB (gV [3] a0 S14 (rec a0 S14)) fun x15 S16 =>
  gB (gV [3] a0 S16 (fX6_sign a0 (41 : Int32) S16)) fun x17 S18 =>
  (oGetI [3] 8 a0 S18).bind fun x19 =>
  (oPut [3] 8 a0 (.int (x19 - (1 : Int32))) S18).bind fun S20 =>
  some ((), S20))
  else
  gB (gV [3] a0 S (fX6_knownHere a0 S)) fun x3 S4 =>
  (if x3 = (-1 : Int32) then
  gB (gV [3] a0 S4 (fX6_number a0 (0 : Int32) (999 : Int32) S4)) fun x5 S6 =>
  gB (gV [3] a0 S6 (fX6_notes a0 (0 : Int32) x5 S6)) fun x7 S8 =>
  some ((), S8)
  else
  gB (gV [3] a0 S4 (fX6_notes a0 (1 : Int32) x3 S4)) fun x9 S10 =>
  some ((), S10)))
  else
  gB (gV [3] a0 S (fX6_opensOne a0 S)) fun x21 S22 =>
  (if x21 = 0 then
  some ((), S22)
  else
  gB (gV [3] a0 S22 (fX6_skipWord a0 S22)) fun x23 S24 =>
  gB (gV [3] a0 S24 (fX6_sign a0 (91 : Int32) S24)) fun x25 S26 =>
  gB (gV [3] a0 S26 (rec a0 S26)) fun x27 S28 =>
  gB (gV [3] a0 S28 (fX6_sign a0 (44 : Int32) S28)) fun x29 S30 =>
  gB (gV [3] a0 S30 (rec a0 S30)) fun x31 S32 =>
  gB (gV [3] a0 S32 (fX6_sign a0 (93 : Int32) S32)) fun x33 S34 =>
  gB (gV [3] a0 S34 (fX6_notes a0 t0 (0 : Int32) S34)) fun x35 S36 =>
  (oGetI [3] 8 a0 S36).bind fun x37 =>
  (oPut [3] 8 a0 (.int (x37 - (1 : Int32))) S36).bind fun S38 =>
  some ((), S38)))
def fX6_one (rec : (Option Nat) → gS → Option (Unit × gS)) (p0 : Option Nat) (S : gS) : Option (Unit × gS) :=
  (oGetI [3] 5 p0 S).bind fun x1 =>
  (if x1 = 0 then
  gB (gV [3] p0 S (fX6_blanks p0 S)) fun x2 S3 =>
  gB (gV [3] p0 S3 (fX6_isWord p0 (12 : Int32) (5 : Int32) (1 : Int32) (19 : Int32) (20 : Int32) (0 : Int32) S3)) fun x4 S5 =>
  (if x4 = 0 then
  gB (gV [3] p0 S5 (fX6_isWord p0 (13 : Int32) (15 : Int32) (19 : Int32) (20 : Int32) (0 : Int32) (0 : Int32) S5)) fun x6 S7 =>
  (if x6 = 0 then
  fX6_one_j56 rec p0 (-1 : Int32) S7
  else
  fX6_one_j56 rec p0 (8 : Int32) S7)
  else
  fX6_one_j56 rec p0 (7 : Int32) S5)
  else
  some ((), S))
theorem wfX6_one_j56 {r : Unit} {S1 : gS} (C : gCx p l R s m args meth c D K RX6 cX6_one 3 (Option.none : Option Jvm.ClassFile.FieldType) [] "one" u0) {rec : (Option Nat) → gS → Option (Unit × gS)} {fr0 lo0 : Nat} (hrec : ∀ (p0 : Option Nat) (S : gS) (r : Unit) (S1 : gS), rec p0 S = some (r, S1) → gMet l D K yX6_sum (ws_ yX6_sum cX6_sum 2 (Option.none : Option Jvm.ClassFile.FieldType)) fr0 lo0 [va_rf p0] S (.inl none) S1) (hRf : R.frames = (fr0 + 7)) (hRl : R.locals = (lo0 + 236)) : ∀ (a0 : Option Nat) (t0 : Int32) (S : gS), fX6_one_j56 rec a0 t0 S = some (r, S1) → gW p l e R s m args below meth c D K 3 u0 (gEnd below args s D K u0 (.inl none) S1) S 56 [(0, va_rf a0)] [.int t0] := by
  intro a0 t0 S hF
  unfold fX6_one_j56 at hF
  refine g_istore_n C dX6_one_56 (by decide) (gcons rfl (gfr rfl gf0)) ?_
  refine g_iload_n C 0 dX6_one_57 rfl ?_
  refine g_iconst (v := (-1 : Int32)) C dX6_one_58 rfl ?_
  refine g_icmp_eq C 117 dX6_one_59 rfl hF (fun c hF => ?_) (fun c hF => ?_)
  · refine g_aload_n C 1 dX6_one_117 rfl ?_
    refine g_aload_n C 1 dX6_one_118 rfl ?_
    refine g_getI C dX6_one_119 fd_47 (Or.inl q2032) (Or.inl rfl) hF (fun x1 hF => ?_)
    obtain ⟨x2, h, hF⟩ := oB hF
    obtain ⟨hi, h⟩ := gV_some h
    refine g_after (g_runV (n := 1) C dX6_one_122 rfl hi (mX6_byteAt C.2.2.2.2.2.2.2.2.2.2.2.1 a0 x1 S _ h) (lw_V q2195 q2197 qs49 q124 q2198) (by decide +kernel) ⟨by rw [hRf]; omega, by rw [hRl]; omega⟩ rfl rfl (gle gc_0 (by decide))) ?_
    refine g_bipush (v := (40 : Int32)) C dX6_one_125 rfl ?_
    refine g_icmp_ne C 169 dX6_one_127 rfl hF (fun c hF => ?_) (fun c hF => ?_)
    · refine g_aload_n C 1 dX6_one_169 rfl ?_
      obtain ⟨x3, S4, h, hF⟩ := gB_some hF
      obtain ⟨hi, h⟩ := gV_some h
      refine g_after (g_runV (n := 0) C dX6_one_170 rfl hi (mX6_knownHere C.2.2.2.2.2.2.2.2.2.2.2.1 a0 S _ _ h) (lw_V q2272 q2274 qs64 q124 q2275) (by decide +kernel) ⟨by rw [hRf]; omega, by rw [hRl]; omega⟩ rfl rfl (gle gc_0 (by decide))) ?_
      refine g_istore_n C dX6_one_173 (by decide) rfl ?_
      refine g_iload_n C 0 dX6_one_174 rfl ?_
      refine g_iconst (v := (-1 : Int32)) C dX6_one_175 rfl ?_
      refine g_icmp_eq C 188 dX6_one_176 rfl hF (fun c hF => ?_) (fun c hF => ?_)
      · refine g_aload_n C 2 dX6_one_188 rfl ?_
        refine g_iconst (v := (0 : Int32)) C dX6_one_189 rfl ?_
        refine g_aload_n C 2 dX6_one_190 rfl ?_
        refine g_iconst (v := (0 : Int32)) C dX6_one_191 rfl ?_
        refine g_sipush (v := (999 : Int32)) C dX6_one_192 rfl ?_
        obtain ⟨x5, S6, h, hF⟩ := gB_some hF
        obtain ⟨hi, h⟩ := gV_some h
        refine g_after (g_runV (n := 2) C dX6_one_195 rfl hi (mX6_number C.2.2.2.2.2.2.2.2.2.2.2.1 a0 (0 : Int32) (999 : Int32) S4 _ _ h) (lw_V q2232 q2234 qs56 q124 q2235) (by decide +kernel) ⟨by rw [hRf]; omega, by rw [hRl]; omega⟩ rfl rfl (gle (gc_i (gc_r gc_0)) (by decide))) ?_
        obtain ⟨x7, S8, h, hF⟩ := gB_some hF
        obtain ⟨hi, h⟩ := gV_some h
        refine g_after (g_runV (n := 2) C dX6_one_198 rfl hi (mX6_notes C.2.2.2.2.2.2.2.2.2.2.2.1 a0 (0 : Int32) x5 S6 _ _ h) (lw_V q2268 q2270 qs63 q124 q2271) (by decide +kernel) ⟨by rw [hRf]; omega, by rw [hRl]; omega⟩ rfl rfl (gle gc_0 (by decide))) ?_
        cases hF
        exact g_vret C dX6_one_201 rfl rfl
      · refine g_aload_n C 2 dX6_one_179 rfl ?_
        refine g_iconst (v := (1 : Int32)) C dX6_one_180 rfl ?_
        refine g_iload_n C 0 dX6_one_181 rfl ?_
        obtain ⟨x9, S10, h, hF⟩ := gB_some hF
        obtain ⟨hi, h⟩ := gV_some h
        refine g_after (g_runV (n := 2) C dX6_one_182 rfl hi (mX6_notes C.2.2.2.2.2.2.2.2.2.2.2.1 a0 (1 : Int32) x3 S4 _ _ h) (lw_V q2268 q2270 qs63 q124 q2271) (by decide +kernel) ⟨by rw [hRf]; omega, by rw [hRl]; omega⟩ rfl rfl (gle gc_0 (by decide))) ?_
        refine g_goto C 201 dX6_one_185 rfl ?_
        cases hF
        exact g_vret C dX6_one_201 rfl rfl
    · refine g_aload_n C 1 dX6_one_130 rfl ?_
      obtain ⟨x11, S12, h, hF⟩ := gB_some hF
      obtain ⟨hi, h⟩ := gV_some h
      refine g_after (g_runV (n := 0) C dX6_one_131 rfl hi (mX6_opensOne C.2.2.2.2.2.2.2.2.2.2.2.1 a0 S _ _ h) (lw_V q2264 q2266 qs62 q124 q2267) (by decide +kernel) ⟨by rw [hRf]; omega, by rw [hRl]; omega⟩ rfl rfl (gle gc_0 (by decide))) ?_
      refine g_if_ne C 138 dX6_one_134 rfl hF (fun c hF => ?_) (fun c hF => ?_)
      · refine g_aload_n C 1 dX6_one_138 rfl ?_
        refine g_dup C dX6_one_139 (g_cr _) ?_
        refine g_getI C dX6_one_140 fd_47 (Or.inl q2032) (Or.inl rfl) hF (fun x13 hF => ?_)
        refine g_iconst (v := (1 : Int32)) C dX6_one_143 rfl ?_
        refine g_iadd C dX6_one_144 ?_
        refine g_put C dX6_one_145 fd_47 (Or.inl q2032) (Or.inl rfl) pf_0 rfl rfl hF (fun S14 hF => ?_)
        refine g_aload_n C 1 dX6_one_148 rfl ?_
        obtain ⟨x15, S16, h, hF⟩ := gB_some hF
        obtain ⟨hi, h⟩ := gV_some h
        refine g_after (g_runV (n := 0) C dX6_one_149 rfl hi (hrec a0 S14 _ _ h) (lw_V q2252 q2254 qs59 q124 q2255) (by decide +kernel) ⟨by rw [hRf]; omega, by rw [hRl]; omega⟩ rfl rfl (gle gc_0 (by decide))) ?_
        refine g_aload_n C 1 dX6_one_152 rfl ?_
        refine g_bipush (v := (41 : Int32)) C dX6_one_153 rfl ?_
        obtain ⟨x17, S18, h, hF⟩ := gB_some hF
        obtain ⟨hi, h⟩ := gV_some h
        refine g_after (g_runV (n := 1) C dX6_one_155 rfl hi (mX6_sign C.2.2.2.2.2.2.2.2.2.2.2.1 a0 (41 : Int32) S16 _ _ h) (lw_V q2240 q2242 qs57 q124 q2243) (by decide +kernel) ⟨by rw [hRf]; omega, by rw [hRl]; omega⟩ rfl rfl (gle gc_0 (by decide))) ?_
        refine g_aload_n C 1 dX6_one_158 rfl ?_
        refine g_dup C dX6_one_159 (g_cr _) ?_
        refine g_getI C dX6_one_160 fd_51 (Or.inl q2036) (Or.inl rfl) hF (fun x19 hF => ?_)
        refine g_iconst (v := (1 : Int32)) C dX6_one_163 rfl ?_
        refine g_isub C dX6_one_164 ?_
        refine g_put C dX6_one_165 fd_51 (Or.inl q2036) (Or.inl rfl) pf_0 rfl rfl hF (fun S20 hF => ?_)
        cases hF
        exact g_vret C dX6_one_168 rfl rfl
      · cases hF
        exact g_vret C dX6_one_137 rfl rfl
  · refine g_aload_n C 1 dX6_one_62 rfl ?_
    obtain ⟨x21, S22, h, hF⟩ := gB_some hF
    obtain ⟨hi, h⟩ := gV_some h
    refine g_after (g_runV (n := 0) C dX6_one_63 rfl hi (mX6_opensOne C.2.2.2.2.2.2.2.2.2.2.2.1 a0 S _ _ h) (lw_V q2264 q2266 qs62 q124 q2267) (by decide +kernel) ⟨by rw [hRf]; omega, by rw [hRl]; omega⟩ rfl rfl (gle gc_0 (by decide))) ?_
    refine g_if_ne C 70 dX6_one_66 rfl hF (fun c hF => ?_) (fun c hF => ?_)
    · refine g_aload_n C 1 dX6_one_70 rfl ?_
      obtain ⟨x23, S24, h, hF⟩ := gB_some hF
      obtain ⟨hi, h⟩ := gV_some h
      refine g_after (g_runV (n := 0) C dX6_one_71 rfl hi (mX6_skipWord C.2.2.2.2.2.2.2.2.2.2.2.1 a0 S22 _ _ h) (lw_V q2228 q2230 qs55 q124 q2231) (by decide +kernel) ⟨by rw [hRf]; omega, by rw [hRl]; omega⟩ rfl rfl (gle gc_0 (by decide))) ?_
      refine g_aload_n C 1 dX6_one_74 rfl ?_
      refine g_bipush (v := (91 : Int32)) C dX6_one_75 rfl ?_
      obtain ⟨x25, S26, h, hF⟩ := gB_some hF
      obtain ⟨hi, h⟩ := gV_some h
      refine g_after (g_runV (n := 1) C dX6_one_77 rfl hi (mX6_sign C.2.2.2.2.2.2.2.2.2.2.2.1 a0 (91 : Int32) S24 _ _ h) (lw_V q2240 q2242 qs57 q124 q2243) (by decide +kernel) ⟨by rw [hRf]; omega, by rw [hRl]; omega⟩ rfl rfl (gle gc_0 (by decide))) ?_
      refine g_aload_n C 1 dX6_one_80 rfl ?_
      obtain ⟨x27, S28, h, hF⟩ := gB_some hF
      obtain ⟨hi, h⟩ := gV_some h
      refine g_after (g_runV (n := 0) C dX6_one_81 rfl hi (hrec a0 S26 _ _ h) (lw_V q2252 q2254 qs59 q124 q2255) (by decide +kernel) ⟨by rw [hRf]; omega, by rw [hRl]; omega⟩ rfl rfl (gle gc_0 (by decide))) ?_
      refine g_aload_n C 1 dX6_one_84 rfl ?_
      refine g_bipush (v := (44 : Int32)) C dX6_one_85 rfl ?_
      obtain ⟨x29, S30, h, hF⟩ := gB_some hF
      obtain ⟨hi, h⟩ := gV_some h
      refine g_after (g_runV (n := 1) C dX6_one_87 rfl hi (mX6_sign C.2.2.2.2.2.2.2.2.2.2.2.1 a0 (44 : Int32) S28 _ _ h) (lw_V q2240 q2242 qs57 q124 q2243) (by decide +kernel) ⟨by rw [hRf]; omega, by rw [hRl]; omega⟩ rfl rfl (gle gc_0 (by decide))) ?_
      refine g_aload_n C 1 dX6_one_90 rfl ?_
      obtain ⟨x31, S32, h, hF⟩ := gB_some hF
      obtain ⟨hi, h⟩ := gV_some h
      refine g_after (g_runV (n := 0) C dX6_one_91 rfl hi (hrec a0 S30 _ _ h) (lw_V q2252 q2254 qs59 q124 q2255) (by decide +kernel) ⟨by rw [hRf]; omega, by rw [hRl]; omega⟩ rfl rfl (gle gc_0 (by decide))) ?_
      refine g_aload_n C 1 dX6_one_94 rfl ?_
      refine g_bipush (v := (93 : Int32)) C dX6_one_95 rfl ?_
      obtain ⟨x33, S34, h, hF⟩ := gB_some hF
      obtain ⟨hi, h⟩ := gV_some h
      refine g_after (g_runV (n := 1) C dX6_one_97 rfl hi (mX6_sign C.2.2.2.2.2.2.2.2.2.2.2.1 a0 (93 : Int32) S32 _ _ h) (lw_V q2240 q2242 qs57 q124 q2243) (by decide +kernel) ⟨by rw [hRf]; omega, by rw [hRl]; omega⟩ rfl rfl (gle gc_0 (by decide))) ?_
      refine g_aload_n C 1 dX6_one_100 rfl ?_
      refine g_iload_n C 0 dX6_one_101 rfl ?_
      refine g_iconst (v := (0 : Int32)) C dX6_one_102 rfl ?_
      obtain ⟨x35, S36, h, hF⟩ := gB_some hF
      obtain ⟨hi, h⟩ := gV_some h
      refine g_after (g_runV (n := 2) C dX6_one_103 rfl hi (mX6_notes C.2.2.2.2.2.2.2.2.2.2.2.1 a0 t0 (0 : Int32) S34 _ _ h) (lw_V q2268 q2270 qs63 q124 q2271) (by decide +kernel) ⟨by rw [hRf]; omega, by rw [hRl]; omega⟩ rfl rfl (gle gc_0 (by decide))) ?_
      refine g_aload_n C 1 dX6_one_106 rfl ?_
      refine g_dup C dX6_one_107 (g_cr _) ?_
      refine g_getI C dX6_one_108 fd_51 (Or.inl q2036) (Or.inl rfl) hF (fun x37 hF => ?_)
      refine g_iconst (v := (1 : Int32)) C dX6_one_111 rfl ?_
      refine g_isub C dX6_one_112 ?_
      refine g_put C dX6_one_113 fd_51 (Or.inl q2036) (Or.inl rfl) pf_0 rfl rfl hF (fun S38 hF => ?_)
      cases hF
      exact g_vret C dX6_one_116 rfl rfl
    · cases hF
      exact g_vret C dX6_one_69 rfl rfl
theorem mX6_one {l : Launch} {D : gD} {K : gK} (hl : l.stackTraces = false) {rec : (Option Nat) → gS → Option (Unit × gS)} {fr0 lo0 : Nat} (hrec : ∀ (p0 : Option Nat) (S : gS) (r : Unit) (S1 : gS), rec p0 S = some (r, S1) → gMet l D K yX6_sum (ws_ yX6_sum cX6_sum 2 (Option.none : Option Jvm.ClassFile.FieldType)) fr0 lo0 [va_rf p0] S (.inl none) S1) : ∀ (p0 : Option Nat) (S : gS) (r : Unit) (S1 : gS), fX6_one rec p0 S = some (r, S1) → gMet l D K yX6_one (ws_ yX6_one cX6_one 3 (Option.none : Option Jvm.ClassFile.FieldType)) (fr0 + 7) (lo0 + 236) [va_rf p0] S (.inl none) S1 := by
  intro p0 S r S1 hF
  unfold fX6_one at hF
  refine gMet.of hl (by decide +kernel) rfl (gle (lgs_r lgs_0) (by decide)) (fun p e s m below meth c R hRf hRl C _ => ?_)
  generalize hargs : ([va_rf p0] : List Value).toArray = args at C ⊢
  generalize hu0 : S.2.2.1 = u0 at C ⊢
  rw [show lv_args 0 [va_rf p0] = [(0, va_rf p0)] from (lva_r rfl lva_0)]
  refine g_aload_n C 0 dX6_one_0 rfl ?_
  refine g_getI C dX6_one_1 fd_48 (Or.inl q2033) (Or.inl rfl) hF (fun x1 hF => ?_)
  refine g_if_eq C 8 dX6_one_4 rfl hF (fun c hF => ?_) (fun c hF => ?_)
  · refine g_aload_n C 0 dX6_one_8 rfl ?_
    obtain ⟨x2, S3, h, hF⟩ := gB_some hF
    obtain ⟨hi, h⟩ := gV_some h
    refine g_after (g_runV (n := 0) C dX6_one_9 rfl hi (mX6_blanks C.2.2.2.2.2.2.2.2.2.2.2.1 p0 S _ _ h) (lw_V q2191 q2193 qs48 q124 q2194) (by decide +kernel) ⟨by rw [hRf]; omega, by rw [hRl]; omega⟩ rfl rfl (gle gc_0 (by decide))) ?_
    refine g_aload_n C 0 dX6_one_12 rfl ?_
    refine g_bipush (v := (12 : Int32)) C dX6_one_13 rfl ?_
    refine g_iconst (v := (5 : Int32)) C dX6_one_15 rfl ?_
    refine g_iconst (v := (1 : Int32)) C dX6_one_16 rfl ?_
    refine g_bipush (v := (19 : Int32)) C dX6_one_17 rfl ?_
    refine g_bipush (v := (20 : Int32)) C dX6_one_19 rfl ?_
    refine g_iconst (v := (0 : Int32)) C dX6_one_21 rfl ?_
    obtain ⟨x4, S5, h, hF⟩ := gB_some hF
    obtain ⟨hi, h⟩ := gV_some h
    refine g_after (g_runV (n := 6) C dX6_one_22 rfl hi (mX6_isWord C.2.2.2.2.2.2.2.2.2.2.2.1 p0 (12 : Int32) (5 : Int32) (1 : Int32) (19 : Int32) (20 : Int32) (0 : Int32) S3 _ _ h) (lw_V q2207 q2209 qs52 q124 q2210) (by decide +kernel) ⟨by rw [hRf]; omega, by rw [hRl]; omega⟩ rfl rfl (gle gc_0 (by decide))) ?_
    refine g_if_eq C 33 dX6_one_25 rfl hF (fun c hF => ?_) (fun c hF => ?_)
    · refine g_aload_n C 0 dX6_one_33 rfl ?_
      refine g_bipush (v := (13 : Int32)) C dX6_one_34 rfl ?_
      refine g_bipush (v := (15 : Int32)) C dX6_one_36 rfl ?_
      refine g_bipush (v := (19 : Int32)) C dX6_one_38 rfl ?_
      refine g_bipush (v := (20 : Int32)) C dX6_one_40 rfl ?_
      refine g_iconst (v := (0 : Int32)) C dX6_one_42 rfl ?_
      refine g_iconst (v := (0 : Int32)) C dX6_one_43 rfl ?_
      obtain ⟨x6, S7, h, hF⟩ := gB_some hF
      obtain ⟨hi, h⟩ := gV_some h
      refine g_after (g_runV (n := 6) C dX6_one_44 rfl hi (mX6_isWord C.2.2.2.2.2.2.2.2.2.2.2.1 p0 (13 : Int32) (15 : Int32) (19 : Int32) (20 : Int32) (0 : Int32) (0 : Int32) S5 _ _ h) (lw_V q2207 q2209 qs52 q124 q2210) (by decide +kernel) ⟨by rw [hRf]; omega, by rw [hRl]; omega⟩ rfl rfl (gle gc_0 (by decide))) ?_
      refine g_if_eq C 55 dX6_one_47 rfl hF (fun c hF => ?_) (fun c hF => ?_)
      · refine g_iconst (v := (-1 : Int32)) C dX6_one_55 rfl ?_
        exact g_sub [0] rfl (wfX6_one_j56 C hrec hRf hRl p0 (-1 : Int32) S7 hF)
      · refine g_bipush (v := (8 : Int32)) C dX6_one_50 rfl ?_
        refine g_goto C 56 dX6_one_52 rfl ?_
        exact g_sub [0] rfl (wfX6_one_j56 C hrec hRf hRl p0 (8 : Int32) S7 hF)
    · refine g_bipush (v := (7 : Int32)) C dX6_one_28 rfl ?_
      refine g_goto C 56 dX6_one_30 rfl ?_
      exact g_sub [0] rfl (wfX6_one_j56 C hrec hRf hRl p0 (7 : Int32) S5 hF)
  · cases hF
    exact g_vret C dX6_one_7 rfl rfl
/-! VowelChoirModel.takesSign(I)Z -/
def fX6_takesSign_j30 (a0 : Option Nat) (t0 : Int32) (S : gS) : Option (Int32 × gS) :=
  (if t0 = 0 then
  (if (t0 = 0 ∨ t0 = 1) then some (t0, S) else none)
  else
  (oGetI [3] 4 a0 S).bind fun x1 =>
  (oPut [3] 4 a0 (.int (x1 + (1 : Int32))) S).bind fun S2 =>
  (if (t0 = 0 ∨ t0 = 1) then some (t0, S2) else none))
def fX6_takesSign (p0 : Option Nat) (p1 : Int32) (S : gS) : Option (Int32 × gS) :=
  (oGetI [3] 5 p0 S).bind fun x1 =>
  (if x1 = 0 then
  gB (gV [3] p0 S (fX6_blanks p0 S)) fun x2 S3 =>
  (oGetI [3] 4 p0 S3).bind fun x4 =>
  (gV [3] p0 S3 (fX6_byteAt p0 x4 S3)).bind fun x5 =>
  (if x5 = p1 then
  fX6_takesSign_j30 p0 (1 : Int32) S3
  else
  fX6_takesSign_j30 p0 (0 : Int32) S3)
  else
  some ((0 : Int32), S))
theorem wfX6_takesSign_j30 {r : Int32} {S1 : gS} (C : gCx p l R s m args meth c D K RX6 cX6_takesSign 3 (Option.some Jvm.ClassFile.FieldType.boolean) [] "takesSign" u0) (hRf : R.frames = 3) (hRl : R.locals = 141) : ∀ (a0 : Option Nat) (t0 : Int32) (S : gS), fX6_takesSign_j30 a0 t0 S = some (r, S1) → gW p l e R s m args below meth c D K 3 u0 (gEnd below args s D K u0 (.inl (some (.int r))) S1) S 30 [(0, va_rf a0)] [.int t0] := by
  intro a0 t0 S hF
  unfold fX6_takesSign_j30 at hF
  refine g_istore_n C dX6_takesSign_30 (by decide) rfl ?_
  refine g_iload_n C 0 dX6_takesSign_31 rfl ?_
  refine g_if_eq C 45 dX6_takesSign_32 rfl hF (fun c hF => ?_) (fun c hF => ?_)
  · refine g_iload_n C 0 dX6_takesSign_45 rfl ?_
    obtain ⟨hz, hF⟩ := gIf hF
    cases hF
    exact g_zret (ty := .boolean) C (nrZ hz) dX6_takesSign_46 rfl rfl
  · refine g_aload_n C 1 dX6_takesSign_35 rfl ?_
    refine g_dup C dX6_takesSign_36 (g_cr _) ?_
    refine g_getI C dX6_takesSign_37 fd_47 (Or.inl q2032) (Or.inl rfl) hF (fun x1 hF => ?_)
    refine g_iconst (v := (1 : Int32)) C dX6_takesSign_40 rfl ?_
    refine g_iadd C dX6_takesSign_41 ?_
    refine g_put C dX6_takesSign_42 fd_47 (Or.inl q2032) (Or.inl rfl) pf_0 rfl rfl hF (fun S2 hF => ?_)
    refine g_iload_n C 0 dX6_takesSign_45 rfl ?_
    obtain ⟨hz, hF⟩ := gIf hF
    cases hF
    exact g_zret (ty := .boolean) C (nrZ hz) dX6_takesSign_46 rfl rfl
theorem mX6_takesSign {l : Launch} {D : gD} {K : gK} (hl : l.stackTraces = false) : ∀ (p0 : Option Nat) (p1 : Int32) (S : gS) (r : Int32) (S1 : gS), fX6_takesSign p0 p1 S = some (r, S1) → gMet l D K yX6_takesSign (ws_ yX6_takesSign cX6_takesSign 3 (Option.some Jvm.ClassFile.FieldType.boolean)) 3 141 [va_rf p0, .int p1] S (.inl (some (.int r))) S1 := by
  intro p0 p1 S r S1 hF
  unfold fX6_takesSign at hF
  refine gMet.of hl (by decide +kernel) rfl (gle (lgs_r (lgs_i lgs_0)) (by decide)) (fun p e s m below meth c R hRf hRl C _ => ?_)
  generalize hargs : ([va_rf p0, .int p1] : List Value).toArray = args at C ⊢
  generalize hu0 : S.2.2.1 = u0 at C ⊢
  rw [show lv_args 0 [va_rf p0, .int p1] = [(0, va_rf p0), (1, .int p1)] from (lva_r rfl (lva_i rfl lva_0))]
  refine g_aload_n C 0 dX6_takesSign_0 rfl ?_
  refine g_getI C dX6_takesSign_1 fd_48 (Or.inl q2033) (Or.inl rfl) hF (fun x1 hF => ?_)
  refine g_if_eq C 9 dX6_takesSign_4 rfl hF (fun c hF => ?_) (fun c hF => ?_)
  · refine g_aload_n C 0 dX6_takesSign_9 rfl ?_
    obtain ⟨x2, S3, h, hF⟩ := gB_some hF
    obtain ⟨hi, h⟩ := gV_some h
    refine g_after (g_runV (n := 0) C dX6_takesSign_10 rfl hi (mX6_blanks C.2.2.2.2.2.2.2.2.2.2.2.1 p0 S _ _ h) (lw_V q2191 q2193 qs48 q124 q2194) (by decide +kernel) ⟨by rw [hRf]; exact Nat.le_of_ble_eq_true rfl, by rw [hRl]; exact Nat.le_of_ble_eq_true rfl⟩ rfl rfl (gle gc_0 (by decide))) ?_
    refine g_aload_n C 0 dX6_takesSign_13 rfl ?_
    refine g_aload_n C 0 dX6_takesSign_14 rfl ?_
    refine g_getI C dX6_takesSign_15 fd_47 (Or.inl q2032) (Or.inl rfl) hF (fun x4 hF => ?_)
    obtain ⟨x5, h, hF⟩ := oB hF
    obtain ⟨hi, h⟩ := gV_some h
    refine g_after (g_runV (n := 1) C dX6_takesSign_18 rfl hi (mX6_byteAt C.2.2.2.2.2.2.2.2.2.2.2.1 p0 x4 S3 _ h) (lw_V q2195 q2197 qs49 q124 q2198) (by decide +kernel) ⟨by rw [hRf]; exact Nat.le_of_ble_eq_true rfl, by rw [hRl]; exact Nat.le_of_ble_eq_true rfl⟩ rfl rfl (gle gc_0 (by decide))) ?_
    refine g_iload_n C 1 dX6_takesSign_21 rfl ?_
    refine g_icmp_ne C 29 dX6_takesSign_22 rfl hF (fun c hF => ?_) (fun c hF => ?_)
    · refine g_iconst (v := (0 : Int32)) C dX6_takesSign_29 rfl ?_
      exact g_sub [0] rfl (wfX6_takesSign_j30 C hRf hRl p0 (0 : Int32) S3 hF)
    · refine g_iconst (v := (1 : Int32)) C dX6_takesSign_25 rfl ?_
      refine g_goto C 30 dX6_takesSign_26 rfl ?_
      exact g_sub [0] rfl (wfX6_takesSign_j30 C hRf hRl p0 (1 : Int32) S3 hF)
  · refine g_iconst (v := (0 : Int32)) C dX6_takesSign_7 rfl ?_
    cases hF
    exact g_zret (ty := .boolean) C (rfl) dX6_takesSign_8 rfl rfl
/-! VowelChoirModel.product()V -/
def fX6_product_j52 (rec : (Option Nat) → gS → Option (Unit × gS)) (k4 : (Option Nat) → gS → Option (Unit × gS)) (a0 : Option Nat) (t0 : Int32) (S : gS) : Option (Unit × gS) :=
  (if t0 = (-1 : Int32) then
  some ((), S)
  else
  gB (gV [3] a0 S (fX6_one rec a0 S)) fun x1 S2 =>
  gB (gV [3] a0 S2 (fX6_notes a0 t0 (0 : Int32) S2)) fun x3 S4 =>
  k4 a0 S4)
def fX6_product_i4 (rec : (Option Nat) → gS → Option (Unit × gS)) (ih : (Option Nat) → gS → Option (Unit × gS)) (a0 : Option Nat) (S : gS) : Option (Unit × gS) :=
  (oGetI [3] 5 a0 S).bind fun x1 =>
  (if x1 = 0 then
  gB (gV [3] a0 S (fX6_takesSign a0 (42 : Int32) S)) fun x2 S3 =>
  (if x2 = 0 then
  gB (gV [3] a0 S3 (fX6_takesSign a0 (47 : Int32) S3)) fun x4 S5 =>
  (if x4 = 0 then
  gB (gV [3] a0 S5 (fX6_takesSign a0 (37 : Int32) S5)) fun x6 S7 =>
  (if x6 = 0 then
  fX6_product_j52 rec ih a0 (-1 : Int32) S7
  else
  fX6_product_j52 rec ih a0 (6 : Int32) S7)
  else
  fX6_product_j52 rec ih a0 (5 : Int32) S5)
  else
  fX6_product_j52 rec ih a0 (4 : Int32) S3)
  else
  some ((), S))
def fX6_product_l4 (rec : (Option Nat) → gS → Option (Unit × gS)) : Nat → (Option Nat) → gS → Option (Unit × gS)
  | 0 => fun _ _ => none
  | n + 1 => fun a0 S => fX6_product_i4 rec (fX6_product_l4 rec n) a0 S
def fX6_product (rec : (Option Nat) → gS → Option (Unit × gS)) (p0 : Option Nat) (S : gS) : Option (Unit × gS) :=
  gB (gV [3] p0 S (fX6_one rec p0 S)) fun x1 S2 =>
  fX6_product_l4 rec gFU p0 S2
theorem wfX6_product_j52 {r : Unit} {S1 : gS} (C : gCx p l R s m args meth c D K RX6 cX6_product 2 (Option.none : Option Jvm.ClassFile.FieldType) [] "product" u0) {rec : (Option Nat) → gS → Option (Unit × gS)} {fr0 lo0 : Nat} (hrec : ∀ (p0 : Option Nat) (S : gS) (r : Unit) (S1 : gS), rec p0 S = some (r, S1) → gMet l D K yX6_sum (ws_ yX6_sum cX6_sum 2 (Option.none : Option Jvm.ClassFile.FieldType)) fr0 lo0 [va_rf p0] S (.inl none) S1) (hRf : R.frames = (fr0 + 8)) (hRl : R.locals = (lo0 + 258)) (k4 : (Option Nat) → gS → Option (Unit × gS)) (hk4 : ∀ (a0 : Option Nat) (S : gS), k4 a0 S = some (r, S1) → gW p l e R s m args below meth c D K 2 u0 (gEnd below args s D K u0 (.inl none) S1) S 4 [(0, va_rf a0)] []) : ∀ (a0 : Option Nat) (t0 : Int32) (S : gS), fX6_product_j52 rec k4 a0 t0 S = some (r, S1) → gW p l e R s m args below meth c D K 2 u0 (gEnd below args s D K u0 (.inl none) S1) S 52 [(0, va_rf a0)] [.int t0] := by
  intro a0 t0 S hF
  unfold fX6_product_j52 at hF
  refine g_istore_n C dX6_product_52 (by decide) (gcons rfl (gfr rfl gf0)) ?_
  refine g_iload_n C 0 dX6_product_53 rfl ?_
  refine g_iconst (v := (-1 : Int32)) C dX6_product_54 rfl ?_
  refine g_icmp_ne C 59 dX6_product_55 rfl hF (fun c hF => ?_) (fun c hF => ?_)
  · refine g_aload_n C 1 dX6_product_59 rfl ?_
    obtain ⟨x1, S2, h, hF⟩ := gB_some hF
    obtain ⟨hi, h⟩ := gV_some h
    refine g_after (g_runV (n := 0) C dX6_product_60 rfl hi (mX6_one C.2.2.2.2.2.2.2.2.2.2.2.1 hrec a0 S _ _ h) (lw_V q2260 q2262 qs61 q124 q2263) (by decide +kernel) ⟨by rw [hRf]; omega, by rw [hRl]; omega⟩ rfl rfl (gle gc_0 (by decide))) ?_
    refine g_aload_n C 1 dX6_product_63 rfl ?_
    refine g_iload_n C 0 dX6_product_64 rfl ?_
    refine g_iconst (v := (0 : Int32)) C dX6_product_65 rfl ?_
    obtain ⟨x3, S4, h, hF⟩ := gB_some hF
    obtain ⟨hi, h⟩ := gV_some h
    refine g_after (g_runV (n := 2) C dX6_product_66 rfl hi (mX6_notes C.2.2.2.2.2.2.2.2.2.2.2.1 a0 t0 (0 : Int32) S2 _ _ h) (lw_V q2268 q2270 qs63 q124 q2271) (by decide +kernel) ⟨by rw [hRf]; omega, by rw [hRl]; omega⟩ rfl rfl (gle gc_0 (by decide))) ?_
    refine g_goto C 4 dX6_product_69 rfl ?_
    exact g_sub [1] rfl (hk4 a0 S4 hF)
  · cases hF
    exact g_vret C dX6_product_58 rfl rfl
theorem wfX6_product_l4 {r : Unit} {S1 : gS} (C : gCx p l R s m args meth c D K RX6 cX6_product 2 (Option.none : Option Jvm.ClassFile.FieldType) [] "product" u0) {rec : (Option Nat) → gS → Option (Unit × gS)} {fr0 lo0 : Nat} (hrec : ∀ (p0 : Option Nat) (S : gS) (r : Unit) (S1 : gS), rec p0 S = some (r, S1) → gMet l D K yX6_sum (ws_ yX6_sum cX6_sum 2 (Option.none : Option Jvm.ClassFile.FieldType)) fr0 lo0 [va_rf p0] S (.inl none) S1) (hRf : R.frames = (fr0 + 8)) (hRl : R.locals = (lo0 + 258)) : ∀ (n : Nat) (a0 : Option Nat) (S : gS), fX6_product_l4 rec n a0 S = some (r, S1) → gW p l e R s m args below meth c D K 2 u0 (gEnd below args s D K u0 (.inl none) S1) S 4 [(0, va_rf a0)] [] := by
  intro n
  induction n with
  | zero => intro a0 S hF; cases hF
  | succ n hih =>
    intro a0 S hF
    have hF : fX6_product_i4 rec (fX6_product_l4 rec n) a0 S = some (r, S1) := hF
    revert hF hih
    generalize fX6_product_l4 rec n = ih
    intro hih hF
    unfold fX6_product_i4 at hF
    refine g_aload_n C 0 dX6_product_4 rfl ?_
    refine g_getI C dX6_product_5 fd_48 (Or.inl q2033) (Or.inl rfl) hF (fun x1 hF => ?_)
    refine g_if_ne C 72 dX6_product_8 rfl hF (fun c hF => ?_) (fun c hF => ?_)
    · cases hF
      exact g_vret C dX6_product_72 rfl rfl
    · refine g_aload_n C 0 dX6_product_11 rfl ?_
      refine g_bipush (v := (42 : Int32)) C dX6_product_12 rfl ?_
      obtain ⟨x2, S3, h, hF⟩ := gB_some hF
      obtain ⟨hi, h⟩ := gV_some h
      refine g_after (g_runV (n := 1) C dX6_product_14 rfl hi (mX6_takesSign C.2.2.2.2.2.2.2.2.2.2.2.1 a0 (42 : Int32) S _ _ h) (lw_V q2280 q2282 qs66 q124 q2283) (by decide +kernel) ⟨by rw [hRf]; omega, by rw [hRl]; omega⟩ rfl rfl (gle gc_0 (by decide))) ?_
      refine g_if_eq C 24 dX6_product_17 rfl hF (fun c hF => ?_) (fun c hF => ?_)
      · refine g_aload_n C 0 dX6_product_24 rfl ?_
        refine g_bipush (v := (47 : Int32)) C dX6_product_25 rfl ?_
        obtain ⟨x4, S5, h, hF⟩ := gB_some hF
        obtain ⟨hi, h⟩ := gV_some h
        refine g_after (g_runV (n := 1) C dX6_product_27 rfl hi (mX6_takesSign C.2.2.2.2.2.2.2.2.2.2.2.1 a0 (47 : Int32) S3 _ _ h) (lw_V q2280 q2282 qs66 q124 q2283) (by decide +kernel) ⟨by rw [hRf]; omega, by rw [hRl]; omega⟩ rfl rfl (gle gc_0 (by decide))) ?_
        refine g_if_eq C 37 dX6_product_30 rfl hF (fun c hF => ?_) (fun c hF => ?_)
        · refine g_aload_n C 0 dX6_product_37 rfl ?_
          refine g_bipush (v := (37 : Int32)) C dX6_product_38 rfl ?_
          obtain ⟨x6, S7, h, hF⟩ := gB_some hF
          obtain ⟨hi, h⟩ := gV_some h
          refine g_after (g_runV (n := 1) C dX6_product_40 rfl hi (mX6_takesSign C.2.2.2.2.2.2.2.2.2.2.2.1 a0 (37 : Int32) S5 _ _ h) (lw_V q2280 q2282 qs66 q124 q2283) (by decide +kernel) ⟨by rw [hRf]; omega, by rw [hRl]; omega⟩ rfl rfl (gle gc_0 (by decide))) ?_
          refine g_if_eq C 51 dX6_product_43 rfl hF (fun c hF => ?_) (fun c hF => ?_)
          · refine g_iconst (v := (-1 : Int32)) C dX6_product_51 rfl ?_
            exact g_sub [0] rfl (wfX6_product_j52 C hrec hRf hRl (ih) (hih) a0 (-1 : Int32) S7 hF)
          · refine g_bipush (v := (6 : Int32)) C dX6_product_46 rfl ?_
            refine g_goto C 52 dX6_product_48 rfl ?_
            exact g_sub [0] rfl (wfX6_product_j52 C hrec hRf hRl (ih) (hih) a0 (6 : Int32) S7 hF)
        · refine g_iconst (v := (5 : Int32)) C dX6_product_33 rfl ?_
          refine g_goto C 52 dX6_product_34 rfl ?_
          exact g_sub [0] rfl (wfX6_product_j52 C hrec hRf hRl (ih) (hih) a0 (5 : Int32) S5 hF)
      · refine g_iconst (v := (4 : Int32)) C dX6_product_20 rfl ?_
        refine g_goto C 52 dX6_product_21 rfl ?_
        exact g_sub [0] rfl (wfX6_product_j52 C hrec hRf hRl (ih) (hih) a0 (4 : Int32) S3 hF)
theorem mX6_product {l : Launch} {D : gD} {K : gK} (hl : l.stackTraces = false) {rec : (Option Nat) → gS → Option (Unit × gS)} {fr0 lo0 : Nat} (hrec : ∀ (p0 : Option Nat) (S : gS) (r : Unit) (S1 : gS), rec p0 S = some (r, S1) → gMet l D K yX6_sum (ws_ yX6_sum cX6_sum 2 (Option.none : Option Jvm.ClassFile.FieldType)) fr0 lo0 [va_rf p0] S (.inl none) S1) : ∀ (p0 : Option Nat) (S : gS) (r : Unit) (S1 : gS), fX6_product rec p0 S = some (r, S1) → gMet l D K yX6_product (ws_ yX6_product cX6_product 2 (Option.none : Option Jvm.ClassFile.FieldType)) (fr0 + 8) (lo0 + 258) [va_rf p0] S (.inl none) S1 := by
  intro p0 S r S1 hF
  unfold fX6_product at hF
  refine gMet.of hl (by decide +kernel) rfl (gle (lgs_r lgs_0) (by decide)) (fun p e s m below meth c R hRf hRl C _ => ?_)
  generalize hargs : ([va_rf p0] : List Value).toArray = args at C ⊢
  generalize hu0 : S.2.2.1 = u0 at C ⊢
  rw [show lv_args 0 [va_rf p0] = [(0, va_rf p0)] from (lva_r rfl lva_0)]
  refine g_aload_n C 0 dX6_product_0 rfl ?_
  obtain ⟨x1, S2, h, hF⟩ := gB_some hF
  obtain ⟨hi, h⟩ := gV_some h
  refine g_after (g_runV (n := 0) C dX6_product_1 rfl hi (mX6_one C.2.2.2.2.2.2.2.2.2.2.2.1 hrec p0 S _ _ h) (lw_V q2260 q2262 qs61 q124 q2263) (by decide +kernel) ⟨by rw [hRf]; omega, by rw [hRl]; omega⟩ rfl rfl (gle gc_0 (by decide))) ?_
  exact g_sub [0] rfl (wfX6_product_l4 C hrec hRf hRl gFU p0 S2 hF)
/-! VowelChoirModel.sum()V -/
def fX6_sum_j38 (rec : (Option Nat) → gS → Option (Unit × gS)) (k4 : (Option Nat) → gS → Option (Unit × gS)) (a0 : Option Nat) (t0 : Int32) (S : gS) : Option (Unit × gS) :=
  (if t0 = (-1 : Int32) then
  some ((), S)
  else
  gB (gV [3] a0 S (fX6_product rec a0 S)) fun x1 S2 =>
  gB (gV [3] a0 S2 (fX6_notes a0 t0 (0 : Int32) S2)) fun x3 S4 =>
  k4 a0 S4)
def fX6_sum_i4 (rec : (Option Nat) → gS → Option (Unit × gS)) (ih : (Option Nat) → gS → Option (Unit × gS)) (a0 : Option Nat) (S : gS) : Option (Unit × gS) :=
  (oGetI [3] 5 a0 S).bind fun x1 =>
  (if x1 = 0 then
  gB (gV [3] a0 S (fX6_takesSign a0 (43 : Int32) S)) fun x2 S3 =>
  (if x2 = 0 then
  gB (gV [3] a0 S3 (fX6_takesSign a0 (45 : Int32) S3)) fun x4 S5 =>
  (if x4 = 0 then
  fX6_sum_j38 rec ih a0 (-1 : Int32) S5
  else
  fX6_sum_j38 rec ih a0 (3 : Int32) S5)
  else
  fX6_sum_j38 rec ih a0 (2 : Int32) S3)
  else
  some ((), S))
def fX6_sum_l4 (rec : (Option Nat) → gS → Option (Unit × gS)) : Nat → (Option Nat) → gS → Option (Unit × gS)
  | 0 => fun _ _ => none
  | n + 1 => fun a0 S => fX6_sum_i4 rec (fX6_sum_l4 rec n) a0 S
def fX6_sum (rec : (Option Nat) → gS → Option (Unit × gS)) (p0 : Option Nat) (S : gS) : Option (Unit × gS) :=
  gB (gV [3] p0 S (fX6_product rec p0 S)) fun x1 S2 =>
  fX6_sum_l4 rec gFU p0 S2
def rX6_sum : Nat → (Option Nat) → gS → Option (Unit × gS)
  | 0 => fun _ _ => none
  | d + 1 => fX6_sum (rX6_sum d)
theorem wfX6_sum_j38 {r : Unit} {S1 : gS} (C : gCx p l R s m args meth c D K RX6 cX6_sum 2 (Option.none : Option Jvm.ClassFile.FieldType) [] "sum" u0) {rec : (Option Nat) → gS → Option (Unit × gS)} {fr0 lo0 : Nat} (hrec : ∀ (p0 : Option Nat) (S : gS) (r : Unit) (S1 : gS), rec p0 S = some (r, S1) → gMet l D K yX6_sum (ws_ yX6_sum cX6_sum 2 (Option.none : Option Jvm.ClassFile.FieldType)) fr0 lo0 [va_rf p0] S (.inl none) S1) (hRf : R.frames = (fr0 + 9)) (hRl : R.locals = (lo0 + 279)) (k4 : (Option Nat) → gS → Option (Unit × gS)) (hk4 : ∀ (a0 : Option Nat) (S : gS), k4 a0 S = some (r, S1) → gW p l e R s m args below meth c D K 2 u0 (gEnd below args s D K u0 (.inl none) S1) S 4 [(0, va_rf a0)] []) : ∀ (a0 : Option Nat) (t0 : Int32) (S : gS), fX6_sum_j38 rec k4 a0 t0 S = some (r, S1) → gW p l e R s m args below meth c D K 2 u0 (gEnd below args s D K u0 (.inl none) S1) S 38 [(0, va_rf a0)] [.int t0] := by
  intro a0 t0 S hF
  unfold fX6_sum_j38 at hF
  refine g_istore_n C dX6_sum_38 (by decide) (gcons rfl (gfr rfl gf0)) ?_
  refine g_iload_n C 0 dX6_sum_39 rfl ?_
  refine g_iconst (v := (-1 : Int32)) C dX6_sum_40 rfl ?_
  refine g_icmp_ne C 45 dX6_sum_41 rfl hF (fun c hF => ?_) (fun c hF => ?_)
  · refine g_aload_n C 1 dX6_sum_45 rfl ?_
    obtain ⟨x1, S2, h, hF⟩ := gB_some hF
    obtain ⟨hi, h⟩ := gV_some h
    refine g_after (g_runV (n := 0) C dX6_sum_46 rfl hi (mX6_product C.2.2.2.2.2.2.2.2.2.2.2.1 hrec a0 S _ _ h) (lw_V q2256 q2258 qs60 q124 q2259) (by decide +kernel) ⟨by rw [hRf]; omega, by rw [hRl]; omega⟩ rfl rfl (gle gc_0 (by decide))) ?_
    refine g_aload_n C 1 dX6_sum_49 rfl ?_
    refine g_iload_n C 0 dX6_sum_50 rfl ?_
    refine g_iconst (v := (0 : Int32)) C dX6_sum_51 rfl ?_
    obtain ⟨x3, S4, h, hF⟩ := gB_some hF
    obtain ⟨hi, h⟩ := gV_some h
    refine g_after (g_runV (n := 2) C dX6_sum_52 rfl hi (mX6_notes C.2.2.2.2.2.2.2.2.2.2.2.1 a0 t0 (0 : Int32) S2 _ _ h) (lw_V q2268 q2270 qs63 q124 q2271) (by decide +kernel) ⟨by rw [hRf]; omega, by rw [hRl]; omega⟩ rfl rfl (gle gc_0 (by decide))) ?_
    refine g_goto C 4 dX6_sum_55 rfl ?_
    exact g_sub [1] rfl (hk4 a0 S4 hF)
  · cases hF
    exact g_vret C dX6_sum_44 rfl rfl
theorem wfX6_sum_l4 {r : Unit} {S1 : gS} (C : gCx p l R s m args meth c D K RX6 cX6_sum 2 (Option.none : Option Jvm.ClassFile.FieldType) [] "sum" u0) {rec : (Option Nat) → gS → Option (Unit × gS)} {fr0 lo0 : Nat} (hrec : ∀ (p0 : Option Nat) (S : gS) (r : Unit) (S1 : gS), rec p0 S = some (r, S1) → gMet l D K yX6_sum (ws_ yX6_sum cX6_sum 2 (Option.none : Option Jvm.ClassFile.FieldType)) fr0 lo0 [va_rf p0] S (.inl none) S1) (hRf : R.frames = (fr0 + 9)) (hRl : R.locals = (lo0 + 279)) : ∀ (n : Nat) (a0 : Option Nat) (S : gS), fX6_sum_l4 rec n a0 S = some (r, S1) → gW p l e R s m args below meth c D K 2 u0 (gEnd below args s D K u0 (.inl none) S1) S 4 [(0, va_rf a0)] [] := by
  intro n
  induction n with
  | zero => intro a0 S hF; cases hF
  | succ n hih =>
    intro a0 S hF
    have hF : fX6_sum_i4 rec (fX6_sum_l4 rec n) a0 S = some (r, S1) := hF
    revert hF hih
    generalize fX6_sum_l4 rec n = ih
    intro hih hF
    unfold fX6_sum_i4 at hF
    refine g_aload_n C 0 dX6_sum_4 rfl ?_
    refine g_getI C dX6_sum_5 fd_48 (Or.inl q2033) (Or.inl rfl) hF (fun x1 hF => ?_)
    refine g_if_ne C 58 dX6_sum_8 rfl hF (fun c hF => ?_) (fun c hF => ?_)
    · cases hF
      exact g_vret C dX6_sum_58 rfl rfl
    · refine g_aload_n C 0 dX6_sum_11 rfl ?_
      refine g_bipush (v := (43 : Int32)) C dX6_sum_12 rfl ?_
      obtain ⟨x2, S3, h, hF⟩ := gB_some hF
      obtain ⟨hi, h⟩ := gV_some h
      refine g_after (g_runV (n := 1) C dX6_sum_14 rfl hi (mX6_takesSign C.2.2.2.2.2.2.2.2.2.2.2.1 a0 (43 : Int32) S _ _ h) (lw_V q2280 q2282 qs66 q124 q2283) (by decide +kernel) ⟨by rw [hRf]; omega, by rw [hRl]; omega⟩ rfl rfl (gle gc_0 (by decide))) ?_
      refine g_if_eq C 24 dX6_sum_17 rfl hF (fun c hF => ?_) (fun c hF => ?_)
      · refine g_aload_n C 0 dX6_sum_24 rfl ?_
        refine g_bipush (v := (45 : Int32)) C dX6_sum_25 rfl ?_
        obtain ⟨x4, S5, h, hF⟩ := gB_some hF
        obtain ⟨hi, h⟩ := gV_some h
        refine g_after (g_runV (n := 1) C dX6_sum_27 rfl hi (mX6_takesSign C.2.2.2.2.2.2.2.2.2.2.2.1 a0 (45 : Int32) S3 _ _ h) (lw_V q2280 q2282 qs66 q124 q2283) (by decide +kernel) ⟨by rw [hRf]; omega, by rw [hRl]; omega⟩ rfl rfl (gle gc_0 (by decide))) ?_
        refine g_if_eq C 37 dX6_sum_30 rfl hF (fun c hF => ?_) (fun c hF => ?_)
        · refine g_iconst (v := (-1 : Int32)) C dX6_sum_37 rfl ?_
          exact g_sub [0] rfl (wfX6_sum_j38 C hrec hRf hRl (ih) (hih) a0 (-1 : Int32) S5 hF)
        · refine g_iconst (v := (3 : Int32)) C dX6_sum_33 rfl ?_
          refine g_goto C 38 dX6_sum_34 rfl ?_
          exact g_sub [0] rfl (wfX6_sum_j38 C hrec hRf hRl (ih) (hih) a0 (3 : Int32) S5 hF)
      · refine g_iconst (v := (2 : Int32)) C dX6_sum_20 rfl ?_
        refine g_goto C 38 dX6_sum_21 rfl ?_
        exact g_sub [0] rfl (wfX6_sum_j38 C hrec hRf hRl (ih) (hih) a0 (2 : Int32) S3 hF)
theorem mX6_sum {l : Launch} {D : gD} {K : gK} (hl : l.stackTraces = false) {rec : (Option Nat) → gS → Option (Unit × gS)} {fr0 lo0 : Nat} (hrec : ∀ (p0 : Option Nat) (S : gS) (r : Unit) (S1 : gS), rec p0 S = some (r, S1) → gMet l D K yX6_sum (ws_ yX6_sum cX6_sum 2 (Option.none : Option Jvm.ClassFile.FieldType)) fr0 lo0 [va_rf p0] S (.inl none) S1) : ∀ (p0 : Option Nat) (S : gS) (r : Unit) (S1 : gS), fX6_sum rec p0 S = some (r, S1) → gMet l D K yX6_sum (ws_ yX6_sum cX6_sum 2 (Option.none : Option Jvm.ClassFile.FieldType)) (fr0 + 9) (lo0 + 279) [va_rf p0] S (.inl none) S1 := by
  intro p0 S r S1 hF
  unfold fX6_sum at hF
  refine gMet.of hl (by decide +kernel) rfl (gle (lgs_r lgs_0) (by decide)) (fun p e s m below meth c R hRf hRl C _ => ?_)
  generalize hargs : ([va_rf p0] : List Value).toArray = args at C ⊢
  generalize hu0 : S.2.2.1 = u0 at C ⊢
  rw [show lv_args 0 [va_rf p0] = [(0, va_rf p0)] from (lva_r rfl lva_0)]
  refine g_aload_n C 0 dX6_sum_0 rfl ?_
  obtain ⟨x1, S2, h, hF⟩ := gB_some hF
  obtain ⟨hi, h⟩ := gV_some h
  refine g_after (g_runV (n := 0) C dX6_sum_1 rfl hi (mX6_product C.2.2.2.2.2.2.2.2.2.2.2.1 hrec p0 S _ _ h) (lw_V q2256 q2258 qs60 q124 q2259) (by decide +kernel) ⟨by rw [hRf]; omega, by rw [hRl]; omega⟩ rfl rfl (gle gc_0 (by decide))) ?_
  exact g_sub [0] rfl (wfX6_sum_l4 C hrec hRf hRl gFU p0 S2 hF)
theorem kX6_sum {l : Launch} {D : gD} {K : gK} (hl : l.stackTraces = false) : ∀ (d : Nat) (p0 : Option Nat) (S : gS) (r : Unit) (S1 : gS), rX6_sum d p0 S = some (r, S1) → gMet l D K yX6_sum (ws_ yX6_sum cX6_sum 2 (Option.none : Option Jvm.ClassFile.FieldType)) (9 * d) (279 * d) [va_rf p0] S (.inl none) S1 := by
  intro d
  induction d with
  | zero => intro p0 S r S1 hF; cases hF
  | succ d ih =>
    intro p0 S r S1 hF
    exact mX6_sum hl ih p0 S r S1 hF
/-! VowelChoirModel.law(I)I -/
def fX6_law_j85 (a0 : Option Nat) (S : gS) : Option (Int32 × gS) :=
  (oGetI [3] 5 a0 S).bind fun x1 =>
  (if x1 = 0 then
  (oPut [3] 3 a0 (.int ((-1 : Int32))) S).bind fun S2 =>
  (oGetI [3] 20 a0 S2).bind fun x3 =>
  (oPut [3] 19 a0 (.int x3) S2).bind fun S4 =>
  (oGetR [3] 22 a0 S4).bind fun x5 =>
  (oGetR [3] 21 a0 S4).bind fun x6 =>
  (oGetI [3] 19 a0 S4).bind fun x7 =>
  gB (fX6_lays x5 x6 x7 S4) fun x8 S9 =>
  some ((1 : Int32), S9)
  else
  gB (gV [3] a0 S (fX6_ends a0 S)) fun x10 S11 =>
  some (x10, S11))
def fX6_law_j30 (a0 : Option Nat) (a1 : Int32) (t0 : Int32) (t1 : Option Nat) (S : gS) : Option (Int32 × gS) :=
  gB (gV [3] t1 S (fX6_bad t1 t0 (1 : Int32) (1 : Int32) S)) fun x1 S2 =>
  (if x1 = 0 then
  gB (gV [3] a0 S2 (fX6_starts a0 a1 S2)) fun x3 S4 =>
  (oPut [3] 20 a0 (.int ((0 : Int32))) S4).bind fun S5 =>
  gB (gV [3] a0 S5 (rX6_sum 40 a0 S5)) fun x6 S7 =>
  gB (gV [3] a0 S7 (fX6_blanks a0 S7)) fun x8 S9 =>
  (oGetI [3] 5 a0 S9).bind fun x10 =>
  (if x10 = 0 then
  (oGetI [3] 4 a0 S9).bind fun x11 =>
  (oGetI [3] 2 a0 S9).bind fun x12 =>
  (if x12 ≤ x11 then
  fX6_law_j85 a0 S9
  else
  (oGetI [3] 4 a0 S9).bind fun x13 =>
  gB (gV [3] a0 S9 (fX6_wrong a0 (1 : Int32) x13 S9)) fun x14 S15 =>
  fX6_law_j85 a0 S15)
  else
  fX6_law_j85 a0 S9)
  else
  some ((0 : Int32), S2))
def fX6_law_j25 (a0 : Option Nat) (a1 : Int32) (t0 : Option Nat) (S : gS) : Option (Int32 × gS) :=
  fX6_law_j30 a0 a1 (1 : Int32) t0 S
def fX6_law (p0 : Option Nat) (p1 : Int32) (S : gS) : Option (Int32 × gS) :=
  (oPut [3] 0 p0 (.int ((0 : Int32))) S).bind fun S1 =>
  (oGetI [3] 1 p0 S1).bind fun x2 =>
  (if (fX6_in p1 (0 : Int32) x2) = 0 then
  fX6_law_j25 p0 p1 p0 S1
  else
  (if p1 ≤ (150 : Int32) then
  fX6_law_j30 p0 p1 (0 : Int32) p0 S1
  else
  fX6_law_j25 p0 p1 p0 S1))
theorem wfX6_law_j85 {r : Int32} {S1 : gS} (C : gCx p l R s m args meth c D K RX6 cX6_law 2 (Option.some Jvm.ClassFile.FieldType.int) [] "law" u0) (hRf : R.frames = 361) (hRl : R.locals = 11181) : ∀ (a0 : Option Nat) (S : gS), fX6_law_j85 a0 S = some (r, S1) → gW p l e R s m args below meth c D K 2 u0 (gEnd below args s D K u0 (.inl (some (.int r))) S1) S 85 [(0, va_rf a0)] [] := by
  intro a0 S hF
  unfold fX6_law_j85 at hF
  refine g_aload_n C 0 dX6_law_85 rfl ?_
  refine g_getI C dX6_law_86 fd_48 (Or.inl q2033) (Or.inl rfl) hF (fun x1 hF => ?_)
  refine g_if_eq C 97 dX6_law_89 rfl hF (fun c hF => ?_) (fun c hF => ?_)
  · refine g_aload_n C 0 dX6_law_97 rfl ?_
    refine g_iconst (v := (-1 : Int32)) C dX6_law_98 rfl ?_
    refine g_put C dX6_law_99 fd_28 (Or.inl q2031) (Or.inl rfl) pf_0 rfl rfl hF (fun S2 hF => ?_)
    refine g_aload_n C 0 dX6_law_102 rfl ?_
    refine g_aload_n C 0 dX6_law_103 rfl ?_
    refine g_getI C dX6_law_104 fd_52 (Or.inl q2048) (Or.inl rfl) hF (fun x3 hF => ?_)
    refine g_put C dX6_law_107 fd_23 (Or.inl q2047) (Or.inl rfl) pf_0 rfl rfl hF (fun S4 hF => ?_)
    refine g_aload_n C 0 dX6_law_110 rfl ?_
    refine g_getR C dX6_law_111 fd_32 (Or.inl q2050) (Or.inl rfl) hF (fun x5 hF => ?_)
    refine g_aload_n C 0 dX6_law_114 rfl ?_
    refine g_getR C dX6_law_115 fd_31 (Or.inl q2049) (Or.inl rfl) hF (fun x6 hF => ?_)
    refine g_aload_n C 0 dX6_law_118 rfl ?_
    refine g_getI C dX6_law_119 fd_23 (Or.inl q2047) (Or.inl rfl) hF (fun x7 hF => ?_)
    obtain ⟨x8, S9, h, hF⟩ := gB_some hF
    refine g_after (g_runS (n := 3) C dX6_law_122 (mX6_lays C.2.2.2.2.2.2.2.2.2.2.2.1 x5 x6 x7 S4 _ _ h) (lw_S q2021 q2022 q124 q2023) (by decide +kernel) ⟨by rw [hRf]; exact Nat.le_of_ble_eq_true rfl, by rw [hRl]; exact Nat.le_of_ble_eq_true rfl⟩ rfl rfl (gle gc_0 (by decide))) ?_
    refine g_iconst (v := (1 : Int32)) C dX6_law_125 rfl ?_
    cases hF
    exact g_iret C dX6_law_126 rfl rfl
  · refine g_aload_n C 0 dX6_law_92 rfl ?_
    obtain ⟨x10, S11, h, hF⟩ := gB_some hF
    obtain ⟨hi, h⟩ := gV_some h
    refine g_after (g_runV (n := 0) C dX6_law_93 rfl hi (mX6_ends C.2.2.2.2.2.2.2.2.2.2.2.1 a0 S _ _ h) (lw_V q2244 q2246 qs58 q124 q2247) (by decide +kernel) ⟨by rw [hRf]; exact Nat.le_of_ble_eq_true rfl, by rw [hRl]; exact Nat.le_of_ble_eq_true rfl⟩ rfl rfl (gle gc_0 (by decide))) ?_
    cases hF
    exact g_iret C dX6_law_96 rfl rfl
theorem wfX6_law_j30 {r : Int32} {S1 : gS} (C : gCx p l R s m args meth c D K RX6 cX6_law 2 (Option.some Jvm.ClassFile.FieldType.int) [] "law" u0) (hRf : R.frames = 361) (hRl : R.locals = 11181) : ∀ (a0 : Option Nat) (a1 : Int32) (t0 : Int32) (t1 : Option Nat) (S : gS), fX6_law_j30 a0 a1 t0 t1 S = some (r, S1) → gW p l e R s m args below meth c D K 2 u0 (gEnd below args s D K u0 (.inl (some (.int r))) S1) S 30 [(0, va_rf a0), (1, .int a1)] [.int t0, va_rf t1] := by
  intro a0 a1 t0 t1 S hF
  unfold fX6_law_j30 at hF
  refine g_iconst (v := (1 : Int32)) C dX6_law_30 rfl ?_
  refine g_iconst (v := (1 : Int32)) C dX6_law_31 rfl ?_
  obtain ⟨x1, S2, h, hF⟩ := gB_some hF
  obtain ⟨hi, h⟩ := gV_some h
  refine g_after (g_runV (n := 3) C dX6_law_32 rfl hi (mX6_bad C.2.2.2.2.2.2.2.2.2.2.2.1 t1 t0 (1 : Int32) (1 : Int32) S _ _ h) (lw_V q2183 q2185 qs46 q124 q2186) (by decide +kernel) ⟨by rw [hRf]; exact Nat.le_of_ble_eq_true rfl, by rw [hRl]; exact Nat.le_of_ble_eq_true rfl⟩ rfl rfl (gle gc_0 (by decide))) ?_
  refine g_if_eq C 40 dX6_law_35 rfl hF (fun c hF => ?_) (fun c hF => ?_)
  · refine g_aload_n C 0 dX6_law_40 rfl ?_
    refine g_iload_n C 1 dX6_law_41 rfl ?_
    obtain ⟨x3, S4, h, hF⟩ := gB_some hF
    obtain ⟨hi, h⟩ := gV_some h
    refine g_after (g_runV (n := 1) C dX6_law_42 rfl hi (mX6_starts C.2.2.2.2.2.2.2.2.2.2.2.1 a0 a1 S2 _ _ h) (lw_V q2187 q2189 qs47 q124 q2190) (by decide +kernel) ⟨by rw [hRf]; exact Nat.le_of_ble_eq_true rfl, by rw [hRl]; exact Nat.le_of_ble_eq_true rfl⟩ rfl rfl (gle gc_0 (by decide))) ?_
    refine g_aload_n C 0 dX6_law_45 rfl ?_
    refine g_iconst (v := (0 : Int32)) C dX6_law_46 rfl ?_
    refine g_put C dX6_law_47 fd_52 (Or.inl q2048) (Or.inl rfl) pf_0 rfl rfl hF (fun S5 hF => ?_)
    refine g_aload_n C 0 dX6_law_50 rfl ?_
    obtain ⟨x6, S7, h, hF⟩ := gB_some hF
    obtain ⟨hi, h⟩ := gV_some h
    refine g_after (g_runV (n := 0) C dX6_law_51 rfl hi (kX6_sum C.2.2.2.2.2.2.2.2.2.2.2.1 40 a0 S5 _ _ h) (lw_V q2252 q2254 qs59 q124 q2255) (by decide +kernel) ⟨by rw [hRf]; exact Nat.le_of_ble_eq_true rfl, by rw [hRl]; exact Nat.le_of_ble_eq_true rfl⟩ rfl rfl (gle gc_0 (by decide))) ?_
    refine g_aload_n C 0 dX6_law_54 rfl ?_
    obtain ⟨x8, S9, h, hF⟩ := gB_some hF
    obtain ⟨hi, h⟩ := gV_some h
    refine g_after (g_runV (n := 0) C dX6_law_55 rfl hi (mX6_blanks C.2.2.2.2.2.2.2.2.2.2.2.1 a0 S7 _ _ h) (lw_V q2191 q2193 qs48 q124 q2194) (by decide +kernel) ⟨by rw [hRf]; exact Nat.le_of_ble_eq_true rfl, by rw [hRl]; exact Nat.le_of_ble_eq_true rfl⟩ rfl rfl (gle gc_0 (by decide))) ?_
    refine g_aload_n C 0 dX6_law_58 rfl ?_
    refine g_getI C dX6_law_59 fd_48 (Or.inl q2033) (Or.inl rfl) hF (fun x10 hF => ?_)
    refine g_if_ne C 85 dX6_law_62 rfl hF (fun c hF => ?_) (fun c hF => ?_)
    · exact g_sub [0] rfl (wfX6_law_j85 C hRf hRl a0 S9 hF)
    · refine g_aload_n C 0 dX6_law_65 rfl ?_
      refine g_getI C dX6_law_66 fd_47 (Or.inl q2032) (Or.inl rfl) hF (fun x11 hF => ?_)
      refine g_aload_n C 0 dX6_law_69 rfl ?_
      refine g_getI C dX6_law_70 fd_46 (Or.inl q2030) (Or.inl rfl) hF (fun x12 hF => ?_)
      refine g_icmp_ge C 85 dX6_law_73 rfl hF (fun c hF => ?_) (fun c hF => ?_)
      · exact g_sub [0] rfl (wfX6_law_j85 C hRf hRl a0 S9 hF)
      · refine g_aload_n C 0 dX6_law_76 rfl ?_
        refine g_iconst (v := (1 : Int32)) C dX6_law_77 rfl ?_
        refine g_aload_n C 0 dX6_law_78 rfl ?_
        refine g_getI C dX6_law_79 fd_47 (Or.inl q2032) (Or.inl rfl) hF (fun x13 hF => ?_)
        obtain ⟨x14, S15, h, hF⟩ := gB_some hF
        obtain ⟨hi, h⟩ := gV_some h
        refine g_after (g_runV (n := 2) C dX6_law_82 rfl hi (mX6_wrong C.2.2.2.2.2.2.2.2.2.2.2.1 a0 (1 : Int32) x13 S9 _ _ h) (lw_V q2221 q2223 qs54 q124 q2224) (by decide +kernel) ⟨by rw [hRf]; exact Nat.le_of_ble_eq_true rfl, by rw [hRl]; exact Nat.le_of_ble_eq_true rfl⟩ rfl rfl (gle gc_0 (by decide))) ?_
        exact g_sub [0] rfl (wfX6_law_j85 C hRf hRl a0 S15 hF)
  · refine g_iconst (v := (0 : Int32)) C dX6_law_38 rfl ?_
    cases hF
    exact g_iret C dX6_law_39 rfl rfl
theorem wfX6_law_j25 {r : Int32} {S1 : gS} (C : gCx p l R s m args meth c D K RX6 cX6_law 2 (Option.some Jvm.ClassFile.FieldType.int) [] "law" u0) (hRf : R.frames = 361) (hRl : R.locals = 11181) : ∀ (a0 : Option Nat) (a1 : Int32) (t0 : Option Nat) (S : gS), fX6_law_j25 a0 a1 t0 S = some (r, S1) → gW p l e R s m args below meth c D K 2 u0 (gEnd below args s D K u0 (.inl (some (.int r))) S1) S 25 [(0, va_rf a0), (1, .int a1)] [va_rf t0] := by
  intro a0 a1 t0 S hF
  unfold fX6_law_j25 at hF
  refine g_iconst (v := (1 : Int32)) C dX6_law_25 rfl ?_
  refine g_goto C 30 dX6_law_26 rfl ?_
  exact g_sub [0, 1] rfl (wfX6_law_j30 C hRf hRl a0 a1 (1 : Int32) t0 S hF)
theorem mX6_law {l : Launch} {D : gD} {K : gK} (hl : l.stackTraces = false) : ∀ (p0 : Option Nat) (p1 : Int32) (S : gS) (r : Int32) (S1 : gS), fX6_law p0 p1 S = some (r, S1) → gMet l D K yX6_law (ws_ yX6_law cX6_law 2 (Option.some Jvm.ClassFile.FieldType.int)) 361 11181 [va_rf p0, .int p1] S (.inl (some (.int r))) S1 := by
  intro p0 p1 S r S1 hF
  unfold fX6_law at hF
  refine gMet.of hl (by decide +kernel) rfl (gle (lgs_r (lgs_i lgs_0)) (by decide)) (fun p e s m below meth c R hRf hRl C _ => ?_)
  generalize hargs : ([va_rf p0, .int p1] : List Value).toArray = args at C ⊢
  generalize hu0 : S.2.2.1 = u0 at C ⊢
  rw [show lv_args 0 [va_rf p0, .int p1] = [(0, va_rf p0), (1, .int p1)] from (lva_r rfl (lva_i rfl lva_0))]
  refine g_aload_n C 0 dX6_law_0 rfl ?_
  refine g_iconst (v := (0 : Int32)) C dX6_law_1 rfl ?_
  refine g_put C dX6_law_2 fd_44 (Or.inl q2028) (Or.inl rfl) pf_0 rfl rfl hF (fun S1 hF => ?_)
  refine g_aload_n C 0 dX6_law_5 rfl ?_
  refine g_iload_n C 1 dX6_law_6 rfl ?_
  refine g_iconst (v := (0 : Int32)) C dX6_law_7 rfl ?_
  refine g_aload_n C 0 dX6_law_8 rfl ?_
  refine g_getI C dX6_law_9 fd_45 (Or.inl q2029) (Or.inl rfl) hF (fun x2 hF => ?_)
  refine g_after (g_runS (n := 3) C dX6_law_12 (mX6_in C.2.2.2.2.2.2.2.2.2.2.2.1 p1 (0 : Int32) x2 S1 _ rfl) (lw_S q2180 q2181 q124 q2182) (by decide +kernel) ⟨by rw [hRf]; exact Nat.le_of_ble_eq_true rfl, by rw [hRl]; exact Nat.le_of_ble_eq_true rfl⟩ rfl rfl (gle (gc_r gc_0) (by decide))) ?_
  refine g_if_eq C 25 dX6_law_15 rfl hF (fun c hF => ?_) (fun c hF => ?_)
  · exact g_sub [0, 1] rfl (wfX6_law_j25 C hRf hRl p0 p1 p0 S1 hF)
  · refine g_iload_n C 1 dX6_law_18 rfl ?_
    refine g_sipush (v := (150 : Int32)) C dX6_law_19 rfl ?_
    refine g_icmp_le C 29 dX6_law_22 rfl hF (fun c hF => ?_) (fun c hF => ?_)
    · refine g_iconst (v := (0 : Int32)) C dX6_law_29 rfl ?_
      exact g_sub [0, 1] rfl (wfX6_law_j30 C hRf hRl p0 p1 (0 : Int32) p0 S1 hF)
    · exact g_sub [0, 1] rfl (wfX6_law_j25 C hRf hRl p0 p1 p0 S1 hF)
/-! VowelChoirModel.has(II)Z -/
def fX6_has (p0 : Int32) (p1 : Int32) : Int32 :=
  (if ((p0 >>> (p1 &&& 31)) &&& (1 : Int32)) = (1 : Int32) then
  (1 : Int32)
  else
  (0 : Int32))
theorem mX6_has {l : Launch} {D : gD} {K : gK} (hl : l.stackTraces = false) : ∀ (p0 : Int32) (p1 : Int32) (S : gS) (r : Int32), fX6_has p0 p1 = r → gMet l D K yX6_has (ws_ yX6_has cX6_has 2 (Option.some Jvm.ClassFile.FieldType.boolean)) 1 100 [.int p0, .int p1] S (.inl (some (.int r))) S := by
  intro p0 p1 S r hF
  unfold fX6_has at hF
  refine gMet.of hl (by decide +kernel) rfl (gle (lgs_i (lgs_i lgs_0)) (by decide)) (fun p e s m below meth c R hRf hRl C _ => ?_)
  generalize hargs : ([.int p0, .int p1] : List Value).toArray = args at C ⊢
  generalize hu0 : S.2.2.1 = u0 at C ⊢
  rw [show lv_args 0 [.int p0, .int p1] = [(0, .int p0), (1, .int p1)] from (lva_i rfl (lva_i rfl lva_0))]
  refine g_iload_n C 0 dX6_has_0 rfl ?_
  refine g_iload_n C 1 dX6_has_1 rfl ?_
  refine g_ishr C dX6_has_2 ?_
  refine g_iconst (v := (1 : Int32)) C dX6_has_3 rfl ?_
  refine g_iand C dX6_has_4 ?_
  refine g_iconst (v := (1 : Int32)) C dX6_has_5 rfl ?_
  refine g_icmp_ne C 13 dX6_has_6 rfl hF (fun c hF => ?_) (fun c hF => ?_)
  · refine g_iconst (v := (0 : Int32)) C dX6_has_13 rfl ?_
    subst hF
    exact g_zret (ty := .boolean) C (rfl) dX6_has_14 rfl rfl
  · refine g_iconst (v := (1 : Int32)) C dX6_has_9 rfl ?_
    refine g_goto C 14 dX6_has_10 rfl ?_
    subst hF
    exact g_zret (ty := .boolean) C (rfl) dX6_has_14 rfl rfl
/-! VowelChoirModel.book(I)I -/
def fX6_book_j168 (a0 : Option Nat) (a2 : Int32) (S : gS) : Option (Int32 × gS) :=
  (oGetI [3] 5 a0 S).bind fun x1 =>
  (if x1 = 0 then
  (oPut [3] 3 a0 (.int ((-1 : Int32))) S).bind fun S2 =>
  (oPut [3] 33 a0 (.int a2) S2).bind fun S3 =>
  (oGetR [3] 24 a0 S3).bind fun x4 =>
  (oGetR [3] 23 a0 S3).bind fun x5 =>
  gB (fX6_lays x4 x5 a2 S3) fun x6 S7 =>
  some (a2, S7)
  else
  gB (gV [3] a0 S (fX6_ends a0 S)) fun x8 S9 =>
  some (x8, S9))
def fX6_book_j110 (k48 : (Option Nat) → (Int32) → (Int32) → gS → Option (Int32 × gS)) (a0 : Option Nat) (a2 : Int32) (a3 : Int32) (a5 : Int32) (S : gS) : Option (Int32 × gS) :=
  gB (gV [3] a0 S (fX6_number a0 (0 : Int32) (1 : Int32) S)) fun x1 S2 =>
  gB (gV [3] a0 S2 (fX6_sign a0 (59 : Int32) S2)) fun x3 S4 =>
  (oGetI [3] 5 a0 S4).bind fun x5 =>
  (if x5 = 0 then
  (oGetR [3] 24 a0 S4).bind fun x8 =>
  (oLdR 5 x8 a2 S4).bind fun x9 =>
  (oStI 0 x9 (0 : Int32) a5 S4).bind fun S10 =>
  (oGetR [3] 24 a0 S10).bind fun x11 =>
  (oLdR 5 x11 a2 S10).bind fun x12 =>
  (oStI 0 x12 (1 : Int32) x1 S10).bind fun S13 =>
  gB (gV [3] a0 S13 (fX6_blanks a0 S13)) fun x14 S15 =>
  k48 a0 (a2 + (1 : Int32)) (a3 ||| ((1 : Int32) <<< (a5 &&& 31))) S15
  else
  gB (gV [3] a0 S4 (fX6_blanks a0 S4)) fun x6 S7 =>
  k48 a0 a2 a3 S7)
def fX6_book_i48 (ih : (Option Nat) → (Int32) → (Int32) → gS → Option (Int32 × gS)) (a0 : Option Nat) (a2 : Int32) (a3 : Int32) (S : gS) : Option (Int32 × gS) :=
  (oGetI [3] 5 a0 S).bind fun x1 =>
  (if x1 = 0 then
  (oGetI [3] 4 a0 S).bind fun x2 =>
  (oGetI [3] 2 a0 S).bind fun x3 =>
  (if x3 ≤ x2 then
  fX6_book_j168 a0 a2 S
  else
  (oGetI [3] 4 a0 S).bind fun x4 =>
  (oGetR [3] 12 a0 S).bind fun x5 =>
  (oLdI 0 x5 (1 : Int32) S).bind fun x6 =>
  gB (gV [3] a0 S (fX6_number a0 (0 : Int32) (x6 - (1 : Int32)) S)) fun x7 S8 =>
  (oGetI [3] 5 a0 S8).bind fun x9 =>
  (if x9 = 0 then
  (if (fX6_has a3 x7) = 0 then
  fX6_book_j110 ih a0 a2 a3 x7 S8
  else
  gB (gV [3] a0 S8 (fX6_wrong a0 (2 : Int32) x4 S8)) fun x10 S11 =>
  fX6_book_j110 ih a0 a2 a3 x7 S11)
  else
  fX6_book_j110 ih a0 a2 a3 x7 S8))
  else
  fX6_book_j168 a0 a2 S)
def fX6_book_l48 : Nat → (Option Nat) → (Int32) → (Int32) → gS → Option (Int32 × gS)
  | 0 => fun _ _ _ _ => none
  | n + 1 => fun a0 a2 a3 S => fX6_book_i48 (fX6_book_l48 n) a0 a2 a3 S
def fX6_book_j29 (a0 : Option Nat) (a1 : Int32) (t0 : Int32) (t1 : Option Nat) (S : gS) : Option (Int32 × gS) :=
  gB (gV [3] t1 S (fX6_bad t1 t0 (1 : Int32) (1 : Int32) S)) fun x1 S2 =>
  (if x1 = 0 then
  gB (gV [3] a0 S2 (fX6_starts a0 a1 S2)) fun x3 S4 =>
  fX6_book_l48 gFU a0 (0 : Int32) (0 : Int32) S4
  else
  some ((0 : Int32), S2))
def fX6_book_j24 (a0 : Option Nat) (a1 : Int32) (t0 : Option Nat) (S : gS) : Option (Int32 × gS) :=
  fX6_book_j29 a0 a1 (1 : Int32) t0 S
def fX6_book (p0 : Option Nat) (p1 : Int32) (S : gS) : Option (Int32 × gS) :=
  (oPut [3] 0 p0 (.int ((0 : Int32))) S).bind fun S1 =>
  (oGetI [3] 1 p0 S1).bind fun x2 =>
  (if (fX6_in p1 (0 : Int32) x2) = 0 then
  fX6_book_j24 p0 p1 p0 S1
  else
  (if p1 ≤ (60 : Int32) then
  fX6_book_j29 p0 p1 (0 : Int32) p0 S1
  else
  fX6_book_j24 p0 p1 p0 S1))
theorem wfX6_book_j168 {r : Int32} {S1 : gS} (C : gCx p l R s m args meth c D K RX6 cX6_book 7 (Option.some Jvm.ClassFile.FieldType.int) [] "book" u0) (hRf : R.frames = 4) (hRl : R.locals = 165) : ∀ (a0 : Option Nat) (a2 : Int32) (S : gS), fX6_book_j168 a0 a2 S = some (r, S1) → gW p l e R s m args below meth c D K 7 u0 (gEnd below args s D K u0 (.inl (some (.int r))) S1) S 168 [(0, va_rf a0), (2, .int a2)] [] := by
  intro a0 a2 S hF
  unfold fX6_book_j168 at hF
  refine g_aload_n C 0 dX6_book_168 rfl ?_
  refine g_getI C dX6_book_169 fd_48 (Or.inl q2033) (Or.inl rfl) hF (fun x1 hF => ?_)
  refine g_if_eq C 180 dX6_book_172 rfl hF (fun c hF => ?_) (fun c hF => ?_)
  · refine g_aload_n C 0 dX6_book_180 rfl ?_
    refine g_iconst (v := (-1 : Int32)) C dX6_book_181 rfl ?_
    refine g_put C dX6_book_182 fd_28 (Or.inl q2031) (Or.inl rfl) pf_0 rfl rfl hF (fun S2 hF => ?_)
    refine g_aload_n C 0 dX6_book_185 rfl ?_
    refine g_iload_n C 1 dX6_book_186 rfl ?_
    refine g_put C dX6_book_187 fd_24 (Or.inl q2061) (Or.inl rfl) pf_0 rfl rfl hF (fun S3 hF => ?_)
    refine g_aload_n C 0 dX6_book_190 rfl ?_
    refine g_getR C dX6_book_191 fd_34 (Or.inl q2052) (Or.inl rfl) hF (fun x4 hF => ?_)
    refine g_aload_n C 0 dX6_book_194 rfl ?_
    refine g_getR C dX6_book_195 fd_33 (Or.inl q2051) (Or.inl rfl) hF (fun x5 hF => ?_)
    refine g_iload_n C 1 dX6_book_198 rfl ?_
    obtain ⟨x6, S7, h, hF⟩ := gB_some hF
    refine g_after (g_runS (n := 3) C dX6_book_199 (mX6_lays C.2.2.2.2.2.2.2.2.2.2.2.1 x4 x5 a2 S3 _ _ h) (lw_S q2021 q2022 q124 q2023) (by decide +kernel) ⟨by rw [hRf]; exact Nat.le_of_ble_eq_true rfl, by rw [hRl]; exact Nat.le_of_ble_eq_true rfl⟩ rfl rfl (gle gc_0 (by decide))) ?_
    refine g_iload_n C 1 dX6_book_202 rfl ?_
    cases hF
    exact g_iret C dX6_book_203 rfl rfl
  · refine g_aload_n C 0 dX6_book_175 rfl ?_
    obtain ⟨x8, S9, h, hF⟩ := gB_some hF
    obtain ⟨hi, h⟩ := gV_some h
    refine g_after (g_runV (n := 0) C dX6_book_176 rfl hi (mX6_ends C.2.2.2.2.2.2.2.2.2.2.2.1 a0 S _ _ h) (lw_V q2244 q2246 qs58 q124 q2247) (by decide +kernel) ⟨by rw [hRf]; exact Nat.le_of_ble_eq_true rfl, by rw [hRl]; exact Nat.le_of_ble_eq_true rfl⟩ rfl rfl (gle gc_0 (by decide))) ?_
    cases hF
    exact g_iret C dX6_book_179 rfl rfl
theorem wfX6_book_j110 {r : Int32} {S1 : gS} (C : gCx p l R s m args meth c D K RX6 cX6_book 7 (Option.some Jvm.ClassFile.FieldType.int) [] "book" u0) (hRf : R.frames = 4) (hRl : R.locals = 165) (k48 : (Option Nat) → (Int32) → (Int32) → gS → Option (Int32 × gS)) (hk48 : ∀ (a0 : Option Nat) (a2 : Int32) (a3 : Int32) (S : gS), k48 a0 a2 a3 S = some (r, S1) → gW p l e R s m args below meth c D K 7 u0 (gEnd below args s D K u0 (.inl (some (.int r))) S1) S 48 [(0, va_rf a0), (2, .int a2), (3, .int a3)] []) : ∀ (a0 : Option Nat) (a2 : Int32) (a3 : Int32) (a5 : Int32) (S : gS), fX6_book_j110 k48 a0 a2 a3 a5 S = some (r, S1) → gW p l e R s m args below meth c D K 7 u0 (gEnd below args s D K u0 (.inl (some (.int r))) S1) S 110 [(0, va_rf a0), (2, .int a2), (3, .int a3), (5, .int a5)] [] := by
  intro a0 a2 a3 a5 S hF
  unfold fX6_book_j110 at hF
  refine g_aload_n C 0 dX6_book_110 rfl ?_
  refine g_iconst (v := (0 : Int32)) C dX6_book_111 rfl ?_
  refine g_iconst (v := (1 : Int32)) C dX6_book_112 rfl ?_
  obtain ⟨x1, S2, h, hF⟩ := gB_some hF
  obtain ⟨hi, h⟩ := gV_some h
  refine g_after (g_runV (n := 2) C dX6_book_113 rfl hi (mX6_number C.2.2.2.2.2.2.2.2.2.2.2.1 a0 (0 : Int32) (1 : Int32) S _ _ h) (lw_V q2232 q2234 qs56 q124 q2235) (by decide +kernel) ⟨by rw [hRf]; exact Nat.le_of_ble_eq_true rfl, by rw [hRl]; exact Nat.le_of_ble_eq_true rfl⟩ rfl rfl (gle gc_0 (by decide))) ?_
  refine g_istore C dX6_book_116 (by decide) rfl ?_
  refine g_aload_n C 1 dX6_book_118 rfl ?_
  refine g_bipush (v := (59 : Int32)) C dX6_book_119 rfl ?_
  obtain ⟨x3, S4, h, hF⟩ := gB_some hF
  obtain ⟨hi, h⟩ := gV_some h
  refine g_after (g_runV (n := 1) C dX6_book_121 rfl hi (mX6_sign C.2.2.2.2.2.2.2.2.2.2.2.1 a0 (59 : Int32) S2 _ _ h) (lw_V q2240 q2242 qs57 q124 q2243) (by decide +kernel) ⟨by rw [hRf]; exact Nat.le_of_ble_eq_true rfl, by rw [hRl]; exact Nat.le_of_ble_eq_true rfl⟩ rfl rfl (gle gc_0 (by decide))) ?_
  refine g_aload_n C 1 dX6_book_124 rfl ?_
  refine g_getI C dX6_book_125 fd_48 (Or.inl q2033) (Or.inl rfl) hF (fun x5 hF => ?_)
  refine g_if_ne C 161 dX6_book_128 rfl hF (fun c hF => ?_) (fun c hF => ?_)
  · refine g_aload_n C 1 dX6_book_161 rfl ?_
    obtain ⟨x6, S7, h, hF⟩ := gB_some hF
    obtain ⟨hi, h⟩ := gV_some h
    refine g_after (g_runV (n := 0) C dX6_book_162 rfl hi (mX6_blanks C.2.2.2.2.2.2.2.2.2.2.2.1 a0 S4 _ _ h) (lw_V q2191 q2193 qs48 q124 q2194) (by decide +kernel) ⟨by rw [hRf]; exact Nat.le_of_ble_eq_true rfl, by rw [hRl]; exact Nat.le_of_ble_eq_true rfl⟩ rfl rfl (gle gc_0 (by decide))) ?_
    refine g_goto C 48 dX6_book_165 rfl ?_
    exact g_sub [1, 2, 3] rfl (hk48 a0 a2 a3 S7 hF)
  · refine g_iload_n C 3 dX6_book_131 rfl ?_
    refine g_iconst (v := (1 : Int32)) C dX6_book_132 rfl ?_
    refine g_iload C 4 dX6_book_133 rfl ?_
    refine g_ishl C dX6_book_135 ?_
    refine g_ior C dX6_book_136 ?_
    refine g_istore_n C dX6_book_137 (by decide) rfl ?_
    refine g_aload_n C 2 dX6_book_138 rfl ?_
    refine g_getR C dX6_book_139 fd_34 (Or.inl q2052) (Or.inl rfl) hF (fun x8 hF => ?_)
    refine g_iload_n C 3 dX6_book_142 rfl ?_
    refine g_aald C (kd := 5) rfl dX6_book_143 hF (fun x9 hF => ?_)
    refine g_iconst (v := (0 : Int32)) C dX6_book_144 rfl ?_
    refine g_iload C 4 dX6_book_145 rfl ?_
    refine g_iast C dX6_book_147 hF (fun S10 hF => ?_)
    refine g_aload_n C 2 dX6_book_148 rfl ?_
    refine g_getR C dX6_book_149 fd_34 (Or.inl q2052) (Or.inl rfl) hF (fun x11 hF => ?_)
    refine g_iload_n C 3 dX6_book_152 rfl ?_
    refine g_aald C (kd := 5) rfl dX6_book_153 hF (fun x12 hF => ?_)
    refine g_iconst (v := (1 : Int32)) C dX6_book_154 rfl ?_
    refine g_iload C 1 dX6_book_155 rfl ?_
    refine g_iast C dX6_book_157 hF (fun S13 hF => ?_)
    refine g_iinc (v := (1 : Int32)) C 3 dX6_book_158 rfl rfl (by decide) rfl ?_
    refine g_aload_n C 3 dX6_book_161 rfl ?_
    obtain ⟨x14, S15, h, hF⟩ := gB_some hF
    obtain ⟨hi, h⟩ := gV_some h
    refine g_after (g_runV (n := 0) C dX6_book_162 rfl hi (mX6_blanks C.2.2.2.2.2.2.2.2.2.2.2.1 a0 S13 _ _ h) (lw_V q2191 q2193 qs48 q124 q2194) (by decide +kernel) ⟨by rw [hRf]; exact Nat.le_of_ble_eq_true rfl, by rw [hRl]; exact Nat.le_of_ble_eq_true rfl⟩ rfl rfl (gle gc_0 (by decide))) ?_
    refine g_goto C 48 dX6_book_165 rfl ?_
    exact g_sub [3, 0, 1] rfl (hk48 a0 (a2 + (1 : Int32)) (a3 ||| ((1 : Int32) <<< (a5 &&& 31))) S15 hF)
theorem wfX6_book_l48 {r : Int32} {S1 : gS} (C : gCx p l R s m args meth c D K RX6 cX6_book 7 (Option.some Jvm.ClassFile.FieldType.int) [] "book" u0) (hRf : R.frames = 4) (hRl : R.locals = 165) : ∀ (n : Nat) (a0 : Option Nat) (a2 : Int32) (a3 : Int32) (S : gS), fX6_book_l48 n a0 a2 a3 S = some (r, S1) → gW p l e R s m args below meth c D K 7 u0 (gEnd below args s D K u0 (.inl (some (.int r))) S1) S 48 [(0, va_rf a0), (2, .int a2), (3, .int a3)] [] := by
  intro n
  induction n with
  | zero => intro a0 a2 a3 S hF; cases hF
  | succ n hih =>
    intro a0 a2 a3 S hF
    have hF : fX6_book_i48 (fX6_book_l48 n) a0 a2 a3 S = some (r, S1) := hF
    revert hF hih
    generalize fX6_book_l48 n = ih
    intro hih hF
    unfold fX6_book_i48 at hF
    refine g_aload_n C 0 dX6_book_48 rfl ?_
    refine g_getI C dX6_book_49 fd_48 (Or.inl q2033) (Or.inl rfl) hF (fun x1 hF => ?_)
    refine g_if_ne C 168 dX6_book_52 rfl hF (fun c hF => ?_) (fun c hF => ?_)
    · exact g_sub [0, 1] rfl (wfX6_book_j168 C hRf hRl a0 a2 S hF)
    · refine g_aload_n C 0 dX6_book_55 rfl ?_
      refine g_getI C dX6_book_56 fd_47 (Or.inl q2032) (Or.inl rfl) hF (fun x2 hF => ?_)
      refine g_aload_n C 0 dX6_book_59 rfl ?_
      refine g_getI C dX6_book_60 fd_46 (Or.inl q2030) (Or.inl rfl) hF (fun x3 hF => ?_)
      refine g_icmp_ge C 168 dX6_book_63 rfl hF (fun c hF => ?_) (fun c hF => ?_)
      · exact g_sub [0, 1] rfl (wfX6_book_j168 C hRf hRl a0 a2 S hF)
      · refine g_aload_n C 0 dX6_book_66 rfl ?_
        refine g_getI C dX6_book_67 fd_47 (Or.inl q2032) (Or.inl rfl) hF (fun x4 hF => ?_)
        refine g_istore C dX6_book_70 (by decide) rfl ?_
        refine g_aload_n C 1 dX6_book_72 rfl ?_
        refine g_iconst (v := (0 : Int32)) C dX6_book_73 rfl ?_
        refine g_aload_n C 1 dX6_book_74 rfl ?_
        refine g_getR C dX6_book_75 fd_15 (Or.inl q2040) (Or.inl rfl) hF (fun x5 hF => ?_)
        refine g_iconst (v := (1 : Int32)) C dX6_book_78 rfl ?_
        refine g_iald C dX6_book_79 hF (fun x6 hF => ?_)
        refine g_iconst (v := (1 : Int32)) C dX6_book_80 rfl ?_
        refine g_isub C dX6_book_81 ?_
        obtain ⟨x7, S8, h, hF⟩ := gB_some hF
        obtain ⟨hi, h⟩ := gV_some h
        refine g_after (g_runV (n := 2) C dX6_book_82 rfl hi (mX6_number C.2.2.2.2.2.2.2.2.2.2.2.1 a0 (0 : Int32) (x6 - (1 : Int32)) S _ _ h) (lw_V q2232 q2234 qs56 q124 q2235) (by decide +kernel) ⟨by rw [hRf]; exact Nat.le_of_ble_eq_true rfl, by rw [hRl]; exact Nat.le_of_ble_eq_true rfl⟩ rfl rfl (gle gc_0 (by decide))) ?_
        refine g_istore C dX6_book_85 (by decide) rfl ?_
        refine g_aload_n C 2 dX6_book_87 rfl ?_
        refine g_getI C dX6_book_88 fd_48 (Or.inl q2033) (Or.inl rfl) hF (fun x9 hF => ?_)
        refine g_if_ne C 110 dX6_book_91 rfl hF (fun c hF => ?_) (fun c hF => ?_)
        · exact g_sub [2, 3, 4, 0] rfl (wfX6_book_j110 C hRf hRl (ih) (hih) a0 a2 a3 x7 S8 hF)
        · refine g_iload_n C 4 dX6_book_94 rfl ?_
          refine g_iload C 0 dX6_book_95 rfl ?_
          refine g_after (g_runS (n := 2) C dX6_book_97 (mX6_has C.2.2.2.2.2.2.2.2.2.2.2.1 a3 x7 S8 _ rfl) (lw_S q2288 q2289 q124 q2290) (by decide +kernel) ⟨by rw [hRf]; exact Nat.le_of_ble_eq_true rfl, by rw [hRl]; exact Nat.le_of_ble_eq_true rfl⟩ rfl rfl (gle gc_0 (by decide))) ?_
          refine g_if_eq C 110 dX6_book_100 rfl hF (fun c hF => ?_) (fun c hF => ?_)
          · exact g_sub [2, 3, 4, 0] rfl (wfX6_book_j110 C hRf hRl (ih) (hih) a0 a2 a3 x7 S8 hF)
          · refine g_aload_n C 2 dX6_book_103 rfl ?_
            refine g_iconst (v := (2 : Int32)) C dX6_book_104 rfl ?_
            refine g_iload C 1 dX6_book_105 rfl ?_
            obtain ⟨x10, S11, h, hF⟩ := gB_some hF
            obtain ⟨hi, h⟩ := gV_some h
            refine g_after (g_runV (n := 2) C dX6_book_107 rfl hi (mX6_wrong C.2.2.2.2.2.2.2.2.2.2.2.1 a0 (2 : Int32) x4 S8 _ _ h) (lw_V q2221 q2223 qs54 q124 q2224) (by decide +kernel) ⟨by rw [hRf]; exact Nat.le_of_ble_eq_true rfl, by rw [hRl]; exact Nat.le_of_ble_eq_true rfl⟩ rfl rfl (gle gc_0 (by decide))) ?_
            exact g_sub [2, 3, 4, 0] rfl (wfX6_book_j110 C hRf hRl (ih) (hih) a0 a2 a3 x7 S11 hF)
theorem wfX6_book_j29 {r : Int32} {S1 : gS} (C : gCx p l R s m args meth c D K RX6 cX6_book 7 (Option.some Jvm.ClassFile.FieldType.int) [] "book" u0) (hRf : R.frames = 4) (hRl : R.locals = 165) : ∀ (a0 : Option Nat) (a1 : Int32) (t0 : Int32) (t1 : Option Nat) (S : gS), fX6_book_j29 a0 a1 t0 t1 S = some (r, S1) → gW p l e R s m args below meth c D K 7 u0 (gEnd below args s D K u0 (.inl (some (.int r))) S1) S 29 [(0, va_rf a0), (1, .int a1)] [.int t0, va_rf t1] := by
  intro a0 a1 t0 t1 S hF
  unfold fX6_book_j29 at hF
  refine g_iconst (v := (1 : Int32)) C dX6_book_29 rfl ?_
  refine g_iconst (v := (1 : Int32)) C dX6_book_30 rfl ?_
  obtain ⟨x1, S2, h, hF⟩ := gB_some hF
  obtain ⟨hi, h⟩ := gV_some h
  refine g_after (g_runV (n := 3) C dX6_book_31 rfl hi (mX6_bad C.2.2.2.2.2.2.2.2.2.2.2.1 t1 t0 (1 : Int32) (1 : Int32) S _ _ h) (lw_V q2183 q2185 qs46 q124 q2186) (by decide +kernel) ⟨by rw [hRf]; exact Nat.le_of_ble_eq_true rfl, by rw [hRl]; exact Nat.le_of_ble_eq_true rfl⟩ rfl rfl (gle gc_0 (by decide))) ?_
  refine g_if_eq C 39 dX6_book_34 rfl hF (fun c hF => ?_) (fun c hF => ?_)
  · refine g_aload_n C 0 dX6_book_39 rfl ?_
    refine g_iload_n C 1 dX6_book_40 rfl ?_
    obtain ⟨x3, S4, h, hF⟩ := gB_some hF
    obtain ⟨hi, h⟩ := gV_some h
    refine g_after (g_runV (n := 1) C dX6_book_41 rfl hi (mX6_starts C.2.2.2.2.2.2.2.2.2.2.2.1 a0 a1 S2 _ _ h) (lw_V q2187 q2189 qs47 q124 q2190) (by decide +kernel) ⟨by rw [hRf]; exact Nat.le_of_ble_eq_true rfl, by rw [hRl]; exact Nat.le_of_ble_eq_true rfl⟩ rfl rfl (gle gc_0 (by decide))) ?_
    refine g_iconst (v := (0 : Int32)) C dX6_book_44 rfl ?_
    refine g_istore_n C dX6_book_45 (by decide) rfl ?_
    refine g_iconst (v := (0 : Int32)) C dX6_book_46 rfl ?_
    refine g_istore_n C dX6_book_47 (by decide) rfl ?_
    exact g_sub [2, 1, 0] rfl (wfX6_book_l48 C hRf hRl gFU a0 (0 : Int32) (0 : Int32) S4 hF)
  · refine g_iconst (v := (0 : Int32)) C dX6_book_37 rfl ?_
    cases hF
    exact g_iret C dX6_book_38 rfl rfl
theorem wfX6_book_j24 {r : Int32} {S1 : gS} (C : gCx p l R s m args meth c D K RX6 cX6_book 7 (Option.some Jvm.ClassFile.FieldType.int) [] "book" u0) (hRf : R.frames = 4) (hRl : R.locals = 165) : ∀ (a0 : Option Nat) (a1 : Int32) (t0 : Option Nat) (S : gS), fX6_book_j24 a0 a1 t0 S = some (r, S1) → gW p l e R s m args below meth c D K 7 u0 (gEnd below args s D K u0 (.inl (some (.int r))) S1) S 24 [(0, va_rf a0), (1, .int a1)] [va_rf t0] := by
  intro a0 a1 t0 S hF
  unfold fX6_book_j24 at hF
  refine g_iconst (v := (1 : Int32)) C dX6_book_24 rfl ?_
  refine g_goto C 29 dX6_book_25 rfl ?_
  exact g_sub [0, 1] rfl (wfX6_book_j29 C hRf hRl a0 a1 (1 : Int32) t0 S hF)
theorem mX6_book {l : Launch} {D : gD} {K : gK} (hl : l.stackTraces = false) : ∀ (p0 : Option Nat) (p1 : Int32) (S : gS) (r : Int32) (S1 : gS), fX6_book p0 p1 S = some (r, S1) → gMet l D K yX6_book (ws_ yX6_book cX6_book 7 (Option.some Jvm.ClassFile.FieldType.int)) 4 165 [va_rf p0, .int p1] S (.inl (some (.int r))) S1 := by
  intro p0 p1 S r S1 hF
  unfold fX6_book at hF
  refine gMet.of hl (by decide +kernel) rfl (gle (lgs_r (lgs_i lgs_0)) (by decide)) (fun p e s m below meth c R hRf hRl C _ => ?_)
  generalize hargs : ([va_rf p0, .int p1] : List Value).toArray = args at C ⊢
  generalize hu0 : S.2.2.1 = u0 at C ⊢
  rw [show lv_args 0 [va_rf p0, .int p1] = [(0, va_rf p0), (1, .int p1)] from (lva_r rfl (lva_i rfl lva_0))]
  refine g_aload_n C 0 dX6_book_0 rfl ?_
  refine g_iconst (v := (0 : Int32)) C dX6_book_1 rfl ?_
  refine g_put C dX6_book_2 fd_44 (Or.inl q2028) (Or.inl rfl) pf_0 rfl rfl hF (fun S1 hF => ?_)
  refine g_aload_n C 0 dX6_book_5 rfl ?_
  refine g_iload_n C 1 dX6_book_6 rfl ?_
  refine g_iconst (v := (0 : Int32)) C dX6_book_7 rfl ?_
  refine g_aload_n C 0 dX6_book_8 rfl ?_
  refine g_getI C dX6_book_9 fd_45 (Or.inl q2029) (Or.inl rfl) hF (fun x2 hF => ?_)
  refine g_after (g_runS (n := 3) C dX6_book_12 (mX6_in C.2.2.2.2.2.2.2.2.2.2.2.1 p1 (0 : Int32) x2 S1 _ rfl) (lw_S q2180 q2181 q124 q2182) (by decide +kernel) ⟨by rw [hRf]; exact Nat.le_of_ble_eq_true rfl, by rw [hRl]; exact Nat.le_of_ble_eq_true rfl⟩ rfl rfl (gle (gc_r gc_0) (by decide))) ?_
  refine g_if_eq C 24 dX6_book_15 rfl hF (fun c hF => ?_) (fun c hF => ?_)
  · exact g_sub [0, 1] rfl (wfX6_book_j24 C hRf hRl p0 p1 p0 S1 hF)
  · refine g_iload_n C 1 dX6_book_18 rfl ?_
    refine g_bipush (v := (60 : Int32)) C dX6_book_19 rfl ?_
    refine g_icmp_le C 28 dX6_book_21 rfl hF (fun c hF => ?_) (fun c hF => ?_)
    · refine g_iconst (v := (0 : Int32)) C dX6_book_28 rfl ?_
      exact g_sub [0, 1] rfl (wfX6_book_j29 C hRf hRl p0 p1 (0 : Int32) p0 S1 hF)
    · exact g_sub [0, 1] rfl (wfX6_book_j24 C hRf hRl p0 p1 p0 S1 hF)
/-! VowelChoirModel.fault()I -/
def fX6_fault (p0 : Option Nat) (S : gS) : Option (Int32 × gS) :=
  (oPut [3] 0 p0 (.int ((0 : Int32))) S).bind fun S1 =>
  (oGetI [3] 3 p0 S1).bind fun x2 =>
  some (x2, S1)
theorem mX6_fault {l : Launch} {D : gD} {K : gK} (hl : l.stackTraces = false) : ∀ (p0 : Option Nat) (S : gS) (r : Int32) (S1 : gS), fX6_fault p0 S = some (r, S1) → gMet l D K yX6_fault (ws_ yX6_fault cX6_fault 1 (Option.some Jvm.ClassFile.FieldType.int)) 1 100 [va_rf p0] S (.inl (some (.int r))) S1 := by
  intro p0 S r S1 hF
  unfold fX6_fault at hF
  refine gMet.of hl (by decide +kernel) rfl (gle (lgs_r lgs_0) (by decide)) (fun p e s m below meth c R hRf hRl C _ => ?_)
  generalize hargs : ([va_rf p0] : List Value).toArray = args at C ⊢
  generalize hu0 : S.2.2.1 = u0 at C ⊢
  rw [show lv_args 0 [va_rf p0] = [(0, va_rf p0)] from (lva_r rfl lva_0)]
  refine g_aload_n C 0 dX6_fault_0 rfl ?_
  refine g_iconst (v := (0 : Int32)) C dX6_fault_1 rfl ?_
  refine g_put C dX6_fault_2 fd_44 (Or.inl q2028) (Or.inl rfl) pf_0 rfl rfl hF (fun S1 hF => ?_)
  refine g_aload_n C 0 dX6_fault_5 rfl ?_
  refine g_getI C dX6_fault_6 fd_28 (Or.inl q2031) (Or.inl rfl) hF (fun x2 hF => ?_)
  cases hF
  exact g_iret C dX6_fault_9 rfl rfl
/-! VowelChoirModel.stepHere()I -/
def fX6_stepHere (p0 : Option Nat) (S : gS) : Option (Int32 × gS) :=
  gB (gV [3] p0 S (fX6_isWord p0 (19 : Int32) (9 : Int32) (14 : Int32) (7 : Int32) (0 : Int32) (0 : Int32) S)) fun x1 S2 =>
  (if x1 = 0 then
  gB (gV [3] p0 S2 (fX6_isWord p0 (8 : Int32) (25 : Int32) (13 : Int32) (14 : Int32) (0 : Int32) (0 : Int32) S2)) fun x3 S4 =>
  (if x3 = 0 then
  gB (gV [3] p0 S4 (fX6_isWord p0 (18 : Int32) (5 : Int32) (19 : Int32) (20 : Int32) (0 : Int32) (0 : Int32) S4)) fun x5 S6 =>
  (if x5 = 0 then
  gB (gV [3] p0 S6 (fX6_isWord p0 (8 : Int32) (15 : Int32) (1 : Int32) (18 : Int32) (19 : Int32) (5 : Int32) S6)) fun x7 S8 =>
  (if x7 = 0 then
  gB (gV [3] p0 S8 (fX6_isWord p0 (3 : Int32) (21 : Int32) (18 : Int32) (5 : Int32) (0 : Int32) (0 : Int32) S8)) fun x9 S10 =>
  (if x9 = 0 then
  gB (gV [3] p0 S10 (fX6_isWord p0 (23 : Int32) (15 : Int32) (18 : Int32) (4 : Int32) (0 : Int32) (0 : Int32) S10)) fun x11 S12 =>
  (if x11 = 0 then
  gB (gV [3] p0 S12 (fX6_isWord p0 (4 : Int32) (1 : Int32) (25 : Int32) (0 : Int32) (0 : Int32) (0 : Int32) S12)) fun x13 S14 =>
  (if x13 = 0 then
  gB (gV [3] p0 S14 (fX6_isWord p0 (1 : Int32) (7 : Int32) (1 : Int32) (9 : Int32) (14 : Int32) (0 : Int32) S14)) fun x15 S16 =>
  (if x15 = 0 then
  some ((-1 : Int32), S16)
  else
  some ((7 : Int32), S16))
  else
  some ((6 : Int32), S14))
  else
  some ((5 : Int32), S12))
  else
  some ((4 : Int32), S10))
  else
  some ((3 : Int32), S8))
  else
  some ((2 : Int32), S6))
  else
  some ((1 : Int32), S4))
  else
  some ((0 : Int32), S2))
theorem mX6_stepHere {l : Launch} {D : gD} {K : gK} (hl : l.stackTraces = false) : ∀ (p0 : Option Nat) (S : gS) (r : Int32) (S1 : gS), fX6_stepHere p0 S = some (r, S1) → gMet l D K yX6_stepHere (ws_ yX6_stepHere cX6_stepHere 1 (Option.some Jvm.ClassFile.FieldType.int)) 5 189 [va_rf p0] S (.inl (some (.int r))) S1 := by
  intro p0 S r S1 hF
  unfold fX6_stepHere at hF
  refine gMet.of hl (by decide +kernel) rfl (gle (lgs_r lgs_0) (by decide)) (fun p e s m below meth c R hRf hRl C _ => ?_)
  generalize hargs : ([va_rf p0] : List Value).toArray = args at C ⊢
  generalize hu0 : S.2.2.1 = u0 at C ⊢
  rw [show lv_args 0 [va_rf p0] = [(0, va_rf p0)] from (lva_r rfl lva_0)]
  refine g_aload_n C 0 dX6_stepHere_0 rfl ?_
  refine g_bipush (v := (19 : Int32)) C dX6_stepHere_1 rfl ?_
  refine g_bipush (v := (9 : Int32)) C dX6_stepHere_3 rfl ?_
  refine g_bipush (v := (14 : Int32)) C dX6_stepHere_5 rfl ?_
  refine g_bipush (v := (7 : Int32)) C dX6_stepHere_7 rfl ?_
  refine g_iconst (v := (0 : Int32)) C dX6_stepHere_9 rfl ?_
  refine g_iconst (v := (0 : Int32)) C dX6_stepHere_10 rfl ?_
  obtain ⟨x1, S2, h, hF⟩ := gB_some hF
  obtain ⟨hi, h⟩ := gV_some h
  refine g_after (g_runV (n := 6) C dX6_stepHere_11 rfl hi (mX6_isWord C.2.2.2.2.2.2.2.2.2.2.2.1 p0 (19 : Int32) (9 : Int32) (14 : Int32) (7 : Int32) (0 : Int32) (0 : Int32) S _ _ h) (lw_V q2207 q2209 qs52 q124 q2210) (by decide +kernel) ⟨by rw [hRf]; exact Nat.le_of_ble_eq_true rfl, by rw [hRl]; exact Nat.le_of_ble_eq_true rfl⟩ rfl rfl (gle gc_0 (by decide))) ?_
  refine g_if_eq C 19 dX6_stepHere_14 rfl hF (fun c hF => ?_) (fun c hF => ?_)
  · refine g_aload_n C 0 dX6_stepHere_19 rfl ?_
    refine g_bipush (v := (8 : Int32)) C dX6_stepHere_20 rfl ?_
    refine g_bipush (v := (25 : Int32)) C dX6_stepHere_22 rfl ?_
    refine g_bipush (v := (13 : Int32)) C dX6_stepHere_24 rfl ?_
    refine g_bipush (v := (14 : Int32)) C dX6_stepHere_26 rfl ?_
    refine g_iconst (v := (0 : Int32)) C dX6_stepHere_28 rfl ?_
    refine g_iconst (v := (0 : Int32)) C dX6_stepHere_29 rfl ?_
    obtain ⟨x3, S4, h, hF⟩ := gB_some hF
    obtain ⟨hi, h⟩ := gV_some h
    refine g_after (g_runV (n := 6) C dX6_stepHere_30 rfl hi (mX6_isWord C.2.2.2.2.2.2.2.2.2.2.2.1 p0 (8 : Int32) (25 : Int32) (13 : Int32) (14 : Int32) (0 : Int32) (0 : Int32) S2 _ _ h) (lw_V q2207 q2209 qs52 q124 q2210) (by decide +kernel) ⟨by rw [hRf]; exact Nat.le_of_ble_eq_true rfl, by rw [hRl]; exact Nat.le_of_ble_eq_true rfl⟩ rfl rfl (gle gc_0 (by decide))) ?_
    refine g_if_eq C 38 dX6_stepHere_33 rfl hF (fun c hF => ?_) (fun c hF => ?_)
    · refine g_aload_n C 0 dX6_stepHere_38 rfl ?_
      refine g_bipush (v := (18 : Int32)) C dX6_stepHere_39 rfl ?_
      refine g_iconst (v := (5 : Int32)) C dX6_stepHere_41 rfl ?_
      refine g_bipush (v := (19 : Int32)) C dX6_stepHere_42 rfl ?_
      refine g_bipush (v := (20 : Int32)) C dX6_stepHere_44 rfl ?_
      refine g_iconst (v := (0 : Int32)) C dX6_stepHere_46 rfl ?_
      refine g_iconst (v := (0 : Int32)) C dX6_stepHere_47 rfl ?_
      obtain ⟨x5, S6, h, hF⟩ := gB_some hF
      obtain ⟨hi, h⟩ := gV_some h
      refine g_after (g_runV (n := 6) C dX6_stepHere_48 rfl hi (mX6_isWord C.2.2.2.2.2.2.2.2.2.2.2.1 p0 (18 : Int32) (5 : Int32) (19 : Int32) (20 : Int32) (0 : Int32) (0 : Int32) S4 _ _ h) (lw_V q2207 q2209 qs52 q124 q2210) (by decide +kernel) ⟨by rw [hRf]; exact Nat.le_of_ble_eq_true rfl, by rw [hRl]; exact Nat.le_of_ble_eq_true rfl⟩ rfl rfl (gle gc_0 (by decide))) ?_
      refine g_if_eq C 56 dX6_stepHere_51 rfl hF (fun c hF => ?_) (fun c hF => ?_)
      · refine g_aload_n C 0 dX6_stepHere_56 rfl ?_
        refine g_bipush (v := (8 : Int32)) C dX6_stepHere_57 rfl ?_
        refine g_bipush (v := (15 : Int32)) C dX6_stepHere_59 rfl ?_
        refine g_iconst (v := (1 : Int32)) C dX6_stepHere_61 rfl ?_
        refine g_bipush (v := (18 : Int32)) C dX6_stepHere_62 rfl ?_
        refine g_bipush (v := (19 : Int32)) C dX6_stepHere_64 rfl ?_
        refine g_iconst (v := (5 : Int32)) C dX6_stepHere_66 rfl ?_
        obtain ⟨x7, S8, h, hF⟩ := gB_some hF
        obtain ⟨hi, h⟩ := gV_some h
        refine g_after (g_runV (n := 6) C dX6_stepHere_67 rfl hi (mX6_isWord C.2.2.2.2.2.2.2.2.2.2.2.1 p0 (8 : Int32) (15 : Int32) (1 : Int32) (18 : Int32) (19 : Int32) (5 : Int32) S6 _ _ h) (lw_V q2207 q2209 qs52 q124 q2210) (by decide +kernel) ⟨by rw [hRf]; exact Nat.le_of_ble_eq_true rfl, by rw [hRl]; exact Nat.le_of_ble_eq_true rfl⟩ rfl rfl (gle gc_0 (by decide))) ?_
        refine g_if_eq C 75 dX6_stepHere_70 rfl hF (fun c hF => ?_) (fun c hF => ?_)
        · refine g_aload_n C 0 dX6_stepHere_75 rfl ?_
          refine g_iconst (v := (3 : Int32)) C dX6_stepHere_76 rfl ?_
          refine g_bipush (v := (21 : Int32)) C dX6_stepHere_77 rfl ?_
          refine g_bipush (v := (18 : Int32)) C dX6_stepHere_79 rfl ?_
          refine g_iconst (v := (5 : Int32)) C dX6_stepHere_81 rfl ?_
          refine g_iconst (v := (0 : Int32)) C dX6_stepHere_82 rfl ?_
          refine g_iconst (v := (0 : Int32)) C dX6_stepHere_83 rfl ?_
          obtain ⟨x9, S10, h, hF⟩ := gB_some hF
          obtain ⟨hi, h⟩ := gV_some h
          refine g_after (g_runV (n := 6) C dX6_stepHere_84 rfl hi (mX6_isWord C.2.2.2.2.2.2.2.2.2.2.2.1 p0 (3 : Int32) (21 : Int32) (18 : Int32) (5 : Int32) (0 : Int32) (0 : Int32) S8 _ _ h) (lw_V q2207 q2209 qs52 q124 q2210) (by decide +kernel) ⟨by rw [hRf]; exact Nat.le_of_ble_eq_true rfl, by rw [hRl]; exact Nat.le_of_ble_eq_true rfl⟩ rfl rfl (gle gc_0 (by decide))) ?_
          refine g_if_eq C 92 dX6_stepHere_87 rfl hF (fun c hF => ?_) (fun c hF => ?_)
          · refine g_aload_n C 0 dX6_stepHere_92 rfl ?_
            refine g_bipush (v := (23 : Int32)) C dX6_stepHere_93 rfl ?_
            refine g_bipush (v := (15 : Int32)) C dX6_stepHere_95 rfl ?_
            refine g_bipush (v := (18 : Int32)) C dX6_stepHere_97 rfl ?_
            refine g_iconst (v := (4 : Int32)) C dX6_stepHere_99 rfl ?_
            refine g_iconst (v := (0 : Int32)) C dX6_stepHere_100 rfl ?_
            refine g_iconst (v := (0 : Int32)) C dX6_stepHere_101 rfl ?_
            obtain ⟨x11, S12, h, hF⟩ := gB_some hF
            obtain ⟨hi, h⟩ := gV_some h
            refine g_after (g_runV (n := 6) C dX6_stepHere_102 rfl hi (mX6_isWord C.2.2.2.2.2.2.2.2.2.2.2.1 p0 (23 : Int32) (15 : Int32) (18 : Int32) (4 : Int32) (0 : Int32) (0 : Int32) S10 _ _ h) (lw_V q2207 q2209 qs52 q124 q2210) (by decide +kernel) ⟨by rw [hRf]; exact Nat.le_of_ble_eq_true rfl, by rw [hRl]; exact Nat.le_of_ble_eq_true rfl⟩ rfl rfl (gle gc_0 (by decide))) ?_
            refine g_if_eq C 110 dX6_stepHere_105 rfl hF (fun c hF => ?_) (fun c hF => ?_)
            · refine g_aload_n C 0 dX6_stepHere_110 rfl ?_
              refine g_iconst (v := (4 : Int32)) C dX6_stepHere_111 rfl ?_
              refine g_iconst (v := (1 : Int32)) C dX6_stepHere_112 rfl ?_
              refine g_bipush (v := (25 : Int32)) C dX6_stepHere_113 rfl ?_
              refine g_iconst (v := (0 : Int32)) C dX6_stepHere_115 rfl ?_
              refine g_iconst (v := (0 : Int32)) C dX6_stepHere_116 rfl ?_
              refine g_iconst (v := (0 : Int32)) C dX6_stepHere_117 rfl ?_
              obtain ⟨x13, S14, h, hF⟩ := gB_some hF
              obtain ⟨hi, h⟩ := gV_some h
              refine g_after (g_runV (n := 6) C dX6_stepHere_118 rfl hi (mX6_isWord C.2.2.2.2.2.2.2.2.2.2.2.1 p0 (4 : Int32) (1 : Int32) (25 : Int32) (0 : Int32) (0 : Int32) (0 : Int32) S12 _ _ h) (lw_V q2207 q2209 qs52 q124 q2210) (by decide +kernel) ⟨by rw [hRf]; exact Nat.le_of_ble_eq_true rfl, by rw [hRl]; exact Nat.le_of_ble_eq_true rfl⟩ rfl rfl (gle gc_0 (by decide))) ?_
              refine g_if_eq C 127 dX6_stepHere_121 rfl hF (fun c hF => ?_) (fun c hF => ?_)
              · refine g_aload_n C 0 dX6_stepHere_127 rfl ?_
                refine g_iconst (v := (1 : Int32)) C dX6_stepHere_128 rfl ?_
                refine g_bipush (v := (7 : Int32)) C dX6_stepHere_129 rfl ?_
                refine g_iconst (v := (1 : Int32)) C dX6_stepHere_131 rfl ?_
                refine g_bipush (v := (9 : Int32)) C dX6_stepHere_132 rfl ?_
                refine g_bipush (v := (14 : Int32)) C dX6_stepHere_134 rfl ?_
                refine g_iconst (v := (0 : Int32)) C dX6_stepHere_136 rfl ?_
                obtain ⟨x15, S16, h, hF⟩ := gB_some hF
                obtain ⟨hi, h⟩ := gV_some h
                refine g_after (g_runV (n := 6) C dX6_stepHere_137 rfl hi (mX6_isWord C.2.2.2.2.2.2.2.2.2.2.2.1 p0 (1 : Int32) (7 : Int32) (1 : Int32) (9 : Int32) (14 : Int32) (0 : Int32) S14 _ _ h) (lw_V q2207 q2209 qs52 q124 q2210) (by decide +kernel) ⟨by rw [hRf]; exact Nat.le_of_ble_eq_true rfl, by rw [hRl]; exact Nat.le_of_ble_eq_true rfl⟩ rfl rfl (gle gc_0 (by decide))) ?_
                refine g_if_eq C 148 dX6_stepHere_140 rfl hF (fun c hF => ?_) (fun c hF => ?_)
                · refine g_iconst (v := (-1 : Int32)) C dX6_stepHere_148 rfl ?_
                  cases hF
                  exact g_iret C dX6_stepHere_149 rfl rfl
                · refine g_bipush (v := (7 : Int32)) C dX6_stepHere_143 rfl ?_
                  refine g_goto C 149 dX6_stepHere_145 rfl ?_
                  cases hF
                  exact g_iret C dX6_stepHere_149 rfl rfl
              · refine g_bipush (v := (6 : Int32)) C dX6_stepHere_124 rfl ?_
                cases hF
                exact g_iret C dX6_stepHere_126 rfl rfl
            · refine g_iconst (v := (5 : Int32)) C dX6_stepHere_108 rfl ?_
              cases hF
              exact g_iret C dX6_stepHere_109 rfl rfl
          · refine g_iconst (v := (4 : Int32)) C dX6_stepHere_90 rfl ?_
            cases hF
            exact g_iret C dX6_stepHere_91 rfl rfl
        · refine g_iconst (v := (3 : Int32)) C dX6_stepHere_73 rfl ?_
          cases hF
          exact g_iret C dX6_stepHere_74 rfl rfl
      · refine g_iconst (v := (2 : Int32)) C dX6_stepHere_54 rfl ?_
        cases hF
        exact g_iret C dX6_stepHere_55 rfl rfl
    · refine g_iconst (v := (1 : Int32)) C dX6_stepHere_36 rfl ?_
      cases hF
      exact g_iret C dX6_stepHere_37 rfl rfl
  · refine g_iconst (v := (0 : Int32)) C dX6_stepHere_17 rfl ?_
    cases hF
    exact g_iret C dX6_stepHere_18 rfl rfl
/-! VowelChoirModel.readsStep()V -/
def fX6_readsStep_j207 (rec : (Option Nat) → gS → Option (Unit × gS)) (a0 : Option Nat) (a2 : Option Nat) (S : gS) : Option (Unit × gS) :=
  (oGetI [3] 28 a0 S).bind fun x1 =>
  (oStI 0 a2 (3 : Int32) x1 S).bind fun S2 =>
  gB (gV [3] a0 S2 (fX6_sign a0 (59 : Int32) S2)) fun x3 S4 =>
  some ((), S4)
def fX6_readsStep_j191 (rec : (Option Nat) → gS → Option (Unit × gS)) (a0 : Option Nat) (a2 : Option Nat) (S : gS) : Option (Unit × gS) :=
  gB (gV [3] a0 S (fX6_sign a0 (93 : Int32) S)) fun x1 S2 =>
  (oGetI [3] 8 a0 S2).bind fun x3 =>
  (oPut [3] 8 a0 (.int (x3 - (1 : Int32))) S2).bind fun S4 =>
  fX6_readsStep_j207 rec a0 a2 S4
def fX6_readsStep_i160 (rec : (Option Nat) → gS → Option (Unit × gS)) (ih : (Option Nat) → (Option Nat) → gS → Option (Unit × gS)) (a0 : Option Nat) (a2 : Option Nat) (S : gS) : Option (Unit × gS) :=
  (oGetI [3] 5 a0 S).bind fun x1 =>
  (if x1 = 0 then
  (oGetI [3] 4 a0 S).bind fun x2 =>
  (gV [3] a0 S (fX6_byteAt a0 x2 S)).bind fun x3 =>
  (if x3 = (93 : Int32) then
  fX6_readsStep_j191 rec a0 a2 S
  else
  gB (gV [3] a0 S (rec a0 S)) fun x4 S5 =>
  gB (gV [3] a0 S5 (fX6_blanks a0 S5)) fun x6 S7 =>
  ih a0 a2 S7)
  else
  fX6_readsStep_j191 rec a0 a2 S)
def fX6_readsStep_l160 (rec : (Option Nat) → gS → Option (Unit × gS)) : Nat → (Option Nat) → (Option Nat) → gS → Option (Unit × gS)
  | 0 => fun _ _ _ => none
  | n + 1 => fun a0 a2 S => fX6_readsStep_i160 rec (fX6_readsStep_l160 rec n) a0 a2 S
def fX6_readsStep_j134 (rec : (Option Nat) → gS → Option (Unit × gS)) (a0 : Option Nat) (a1 : Int32) (a2 : Option Nat) (S : gS) : Option (Unit × gS) :=
  (if a1 = (7 : Int32) then
  gB (gV [3] a0 S (fX6_number a0 (0 : Int32) (60 : Int32) S)) fun x1 S2 =>
  (oStI 0 a2 (1 : Int32) x1 S2).bind fun S3 =>
  gB (gV [3] a0 S3 (fX6_sign a0 (91 : Int32) S3)) fun x4 S5 =>
  gB (gV [3] a0 S5 (fX6_blanks a0 S5)) fun x6 S7 =>
  fX6_readsStep_l160 rec gFU a0 a2 S7
  else
  fX6_readsStep_j207 rec a0 a2 S)
def fX6_readsStep_j120 (rec : (Option Nat) → gS → Option (Unit × gS)) (a0 : Option Nat) (a1 : Int32) (a2 : Option Nat) (S : gS) : Option (Unit × gS) :=
  (if a1 = (5 : Int32) then
  gB (gV [3] a0 S (fX6_number a0 (0 : Int32) (5 : Int32) S)) fun x1 S2 =>
  (oStI 0 a2 (2 : Int32) x1 S2).bind fun S3 =>
  fX6_readsStep_j134 rec a0 a1 a2 S3
  else
  fX6_readsStep_j134 rec a0 a1 a2 S)
def fX6_readsStep_j104 (rec : (Option Nat) → gS → Option (Unit × gS)) (a0 : Option Nat) (a1 : Int32) (a2 : Option Nat) (S : gS) : Option (Unit × gS) :=
  (oGetR [3] 12 a0 S).bind fun x1 =>
  (oLdI 0 x1 (0 : Int32) S).bind fun x2 =>
  gB (gV [3] a0 S (fX6_number a0 (0 : Int32) (x2 - (1 : Int32)) S)) fun x3 S4 =>
  (oStI 0 a2 (1 : Int32) x3 S4).bind fun S5 =>
  fX6_readsStep_j120 rec a0 a1 a2 S5
def fX6_readsStep_j94 (rec : (Option Nat) → gS → Option (Unit × gS)) (a0 : Option Nat) (a1 : Int32) (a2 : Option Nat) (S : gS) : Option (Unit × gS) :=
  (if a1 = (3 : Int32) then
  fX6_readsStep_j104 rec a0 a1 a2 S
  else
  (if a1 = (4 : Int32) then
  fX6_readsStep_j104 rec a0 a1 a2 S
  else
  fX6_readsStep_j120 rec a0 a1 a2 S))
def fX6_readsStep_j78 (rec : (Option Nat) → gS → Option (Unit × gS)) (a0 : Option Nat) (a1 : Int32) (a2 : Option Nat) (S : gS) : Option (Unit × gS) :=
  (oGetR [3] 12 a0 S).bind fun x1 =>
  (oLdI 0 x1 (1 : Int32) S).bind fun x2 =>
  gB (gV [3] a0 S (fX6_number a0 (0 : Int32) (x2 - (1 : Int32)) S)) fun x3 S4 =>
  (oStI 0 a2 (1 : Int32) x3 S4).bind fun S5 =>
  fX6_readsStep_j94 rec a0 a1 a2 S5
def fX6_readsStep_j33 (rec : (Option Nat) → gS → Option (Unit × gS)) (a0 : Option Nat) (a1 : Int32) (S : gS) : Option (Unit × gS) :=
  (oGetI [3] 5 a0 S).bind fun x1 =>
  (if x1 = 0 then
  gB (gV [3] a0 S (fX6_skipWord a0 S)) fun x2 S3 =>
  (oGetR [3] 27 a0 S3).bind fun x4 =>
  (oGetI [3] 28 a0 S3).bind fun x5 =>
  (oLdR 5 x4 x5 S3).bind fun x6 =>
  (oGetI [3] 28 a0 S3).bind fun x7 =>
  (oPut [3] 28 a0 (.int (x7 + (1 : Int32))) S3).bind fun S8 =>
  (oStI 0 x6 (0 : Int32) a1 S8).bind fun S9 =>
  (if a1 = 0 then
  fX6_readsStep_j78 rec a0 a1 x6 S9
  else
  (if a1 = (5 : Int32) then
  fX6_readsStep_j78 rec a0 a1 x6 S9
  else
  fX6_readsStep_j94 rec a0 a1 x6 S9))
  else
  some ((), S))
def fX6_readsStep_j19 (rec : (Option Nat) → gS → Option (Unit × gS)) (a0 : Option Nat) (a1 : Int32) (S : gS) : Option (Unit × gS) :=
  (if a1 = (7 : Int32) then
  gB (gV [3] a0 S (fX6_opensOne a0 S)) fun x1 S2 =>
  (if x1 = 0 then
  some ((), S2)
  else
  fX6_readsStep_j33 rec a0 a1 S2)
  else
  fX6_readsStep_j33 rec a0 a1 S)
def fX6_readsStep (rec : (Option Nat) → gS → Option (Unit × gS)) (p0 : Option Nat) (S : gS) : Option (Unit × gS) :=
  gB (gV [3] p0 S (fX6_stepHere p0 S)) fun x1 S2 =>
  (if x1 = (-1 : Int32) then
  (oGetI [3] 4 p0 S2).bind fun x3 =>
  gB (gV [3] p0 S2 (fX6_wrong p0 (1 : Int32) x3 S2)) fun x4 S5 =>
  fX6_readsStep_j19 rec p0 x1 S5
  else
  fX6_readsStep_j19 rec p0 x1 S2)
def rX6_readsStep : Nat → (Option Nat) → gS → Option (Unit × gS)
  | 0 => fun _ _ => none
  | d + 1 => fX6_readsStep (rX6_readsStep d)
theorem wfX6_readsStep_j207 {r : Unit} {S1 : gS} (C : gCx p l R s m args meth c D K RX6 cX6_readsStep 3 (Option.none : Option Jvm.ClassFile.FieldType) [] "readsStep" u0) {rec : (Option Nat) → gS → Option (Unit × gS)} {fr0 lo0 : Nat} (hrec : ∀ (p0 : Option Nat) (S : gS) (r : Unit) (S1 : gS), rec p0 S = some (r, S1) → gMet l D K yX6_readsStep (ws_ yX6_readsStep cX6_readsStep 3 (Option.none : Option Jvm.ClassFile.FieldType)) fr0 lo0 [va_rf p0] S (.inl none) S1) (hRf : R.frames = (fr0 + 6)) (hRl : R.locals = (lo0 + 209)) : ∀ (a0 : Option Nat) (a2 : Option Nat) (S : gS), fX6_readsStep_j207 rec a0 a2 S = some (r, S1) → gW p l e R s m args below meth c D K 3 u0 (gEnd below args s D K u0 (.inl none) S1) S 207 [(0, va_rf a0), (2, va_rf a2)] [] := by
  intro a0 a2 S hF
  unfold fX6_readsStep_j207 at hF
  refine g_aload_n C 1 dX6_readsStep_207 rfl ?_
  refine g_iconst (v := (3 : Int32)) C dX6_readsStep_208 rfl ?_
  refine g_aload_n C 0 dX6_readsStep_209 rfl ?_
  refine g_getI C dX6_readsStep_210 fd_53 (Or.inl q2056) (Or.inl rfl) hF (fun x1 hF => ?_)
  refine g_iast C dX6_readsStep_213 hF (fun S2 hF => ?_)
  refine g_aload_n C 0 dX6_readsStep_214 rfl ?_
  refine g_bipush (v := (59 : Int32)) C dX6_readsStep_215 rfl ?_
  obtain ⟨x3, S4, h, hF⟩ := gB_some hF
  obtain ⟨hi, h⟩ := gV_some h
  refine g_after (g_runV (n := 1) C dX6_readsStep_217 rfl hi (mX6_sign C.2.2.2.2.2.2.2.2.2.2.2.1 a0 (59 : Int32) S2 _ _ h) (lw_V q2240 q2242 qs57 q124 q2243) (by decide +kernel) ⟨by rw [hRf]; omega, by rw [hRl]; omega⟩ rfl rfl (gle gc_0 (by decide))) ?_
  cases hF
  exact g_vret C dX6_readsStep_220 rfl rfl
theorem wfX6_readsStep_j191 {r : Unit} {S1 : gS} (C : gCx p l R s m args meth c D K RX6 cX6_readsStep 3 (Option.none : Option Jvm.ClassFile.FieldType) [] "readsStep" u0) {rec : (Option Nat) → gS → Option (Unit × gS)} {fr0 lo0 : Nat} (hrec : ∀ (p0 : Option Nat) (S : gS) (r : Unit) (S1 : gS), rec p0 S = some (r, S1) → gMet l D K yX6_readsStep (ws_ yX6_readsStep cX6_readsStep 3 (Option.none : Option Jvm.ClassFile.FieldType)) fr0 lo0 [va_rf p0] S (.inl none) S1) (hRf : R.frames = (fr0 + 6)) (hRl : R.locals = (lo0 + 209)) : ∀ (a0 : Option Nat) (a2 : Option Nat) (S : gS), fX6_readsStep_j191 rec a0 a2 S = some (r, S1) → gW p l e R s m args below meth c D K 3 u0 (gEnd below args s D K u0 (.inl none) S1) S 191 [(0, va_rf a0), (2, va_rf a2)] [] := by
  intro a0 a2 S hF
  unfold fX6_readsStep_j191 at hF
  refine g_aload_n C 0 dX6_readsStep_191 rfl ?_
  refine g_bipush (v := (93 : Int32)) C dX6_readsStep_192 rfl ?_
  obtain ⟨x1, S2, h, hF⟩ := gB_some hF
  obtain ⟨hi, h⟩ := gV_some h
  refine g_after (g_runV (n := 1) C dX6_readsStep_194 rfl hi (mX6_sign C.2.2.2.2.2.2.2.2.2.2.2.1 a0 (93 : Int32) S _ _ h) (lw_V q2240 q2242 qs57 q124 q2243) (by decide +kernel) ⟨by rw [hRf]; omega, by rw [hRl]; omega⟩ rfl rfl (gle gc_0 (by decide))) ?_
  refine g_aload_n C 0 dX6_readsStep_197 rfl ?_
  refine g_dup C dX6_readsStep_198 (g_cr _) ?_
  refine g_getI C dX6_readsStep_199 fd_51 (Or.inl q2036) (Or.inl rfl) hF (fun x3 hF => ?_)
  refine g_iconst (v := (1 : Int32)) C dX6_readsStep_202 rfl ?_
  refine g_isub C dX6_readsStep_203 ?_
  refine g_put C dX6_readsStep_204 fd_51 (Or.inl q2036) (Or.inl rfl) pf_0 rfl rfl hF (fun S4 hF => ?_)
  exact g_sub [0, 1] rfl (wfX6_readsStep_j207 C hrec hRf hRl a0 a2 S4 hF)
theorem wfX6_readsStep_l160 {r : Unit} {S1 : gS} (C : gCx p l R s m args meth c D K RX6 cX6_readsStep 3 (Option.none : Option Jvm.ClassFile.FieldType) [] "readsStep" u0) {rec : (Option Nat) → gS → Option (Unit × gS)} {fr0 lo0 : Nat} (hrec : ∀ (p0 : Option Nat) (S : gS) (r : Unit) (S1 : gS), rec p0 S = some (r, S1) → gMet l D K yX6_readsStep (ws_ yX6_readsStep cX6_readsStep 3 (Option.none : Option Jvm.ClassFile.FieldType)) fr0 lo0 [va_rf p0] S (.inl none) S1) (hRf : R.frames = (fr0 + 6)) (hRl : R.locals = (lo0 + 209)) : ∀ (n : Nat) (a0 : Option Nat) (a2 : Option Nat) (S : gS), fX6_readsStep_l160 rec n a0 a2 S = some (r, S1) → gW p l e R s m args below meth c D K 3 u0 (gEnd below args s D K u0 (.inl none) S1) S 160 [(0, va_rf a0), (2, va_rf a2)] [] := by
  intro n
  induction n with
  | zero => intro a0 a2 S hF; cases hF
  | succ n hih =>
    intro a0 a2 S hF
    have hF : fX6_readsStep_i160 rec (fX6_readsStep_l160 rec n) a0 a2 S = some (r, S1) := hF
    revert hF hih
    generalize fX6_readsStep_l160 rec n = ih
    intro hih hF
    unfold fX6_readsStep_i160 at hF
    refine g_aload_n C 0 dX6_readsStep_160 rfl ?_
    refine g_getI C dX6_readsStep_161 fd_48 (Or.inl q2033) (Or.inl rfl) hF (fun x1 hF => ?_)
    refine g_if_ne C 191 dX6_readsStep_164 rfl hF (fun c hF => ?_) (fun c hF => ?_)
    · exact g_sub [0, 1] rfl (wfX6_readsStep_j191 C hrec hRf hRl a0 a2 S hF)
    · refine g_aload_n C 0 dX6_readsStep_167 rfl ?_
      refine g_aload_n C 0 dX6_readsStep_168 rfl ?_
      refine g_getI C dX6_readsStep_169 fd_47 (Or.inl q2032) (Or.inl rfl) hF (fun x2 hF => ?_)
      obtain ⟨x3, h, hF⟩ := oB hF
      obtain ⟨hi, h⟩ := gV_some h
      refine g_after (g_runV (n := 1) C dX6_readsStep_172 rfl hi (mX6_byteAt C.2.2.2.2.2.2.2.2.2.2.2.1 a0 x2 S _ h) (lw_V q2195 q2197 qs49 q124 q2198) (by decide +kernel) ⟨by rw [hRf]; omega, by rw [hRl]; omega⟩ rfl rfl (gle gc_0 (by decide))) ?_
      refine g_bipush (v := (93 : Int32)) C dX6_readsStep_175 rfl ?_
      refine g_icmp_eq C 191 dX6_readsStep_177 rfl hF (fun c hF => ?_) (fun c hF => ?_)
      · exact g_sub [0, 1] rfl (wfX6_readsStep_j191 C hrec hRf hRl a0 a2 S hF)
      · refine g_aload_n C 0 dX6_readsStep_180 rfl ?_
        obtain ⟨x4, S5, h, hF⟩ := gB_some hF
        obtain ⟨hi, h⟩ := gV_some h
        refine g_after (g_runV (n := 0) C dX6_readsStep_181 rfl hi (hrec a0 S _ _ h) (lw_V q2299 q2301 qs67 q124 q2302) (by decide +kernel) ⟨by rw [hRf]; omega, by rw [hRl]; omega⟩ rfl rfl (gle gc_0 (by decide))) ?_
        refine g_aload_n C 0 dX6_readsStep_184 rfl ?_
        obtain ⟨x6, S7, h, hF⟩ := gB_some hF
        obtain ⟨hi, h⟩ := gV_some h
        refine g_after (g_runV (n := 0) C dX6_readsStep_185 rfl hi (mX6_blanks C.2.2.2.2.2.2.2.2.2.2.2.1 a0 S5 _ _ h) (lw_V q2191 q2193 qs48 q124 q2194) (by decide +kernel) ⟨by rw [hRf]; omega, by rw [hRl]; omega⟩ rfl rfl (gle gc_0 (by decide))) ?_
        refine g_goto C 160 dX6_readsStep_188 rfl ?_
        exact g_sub [0, 1] rfl (hih a0 a2 S7 hF)
theorem wfX6_readsStep_j134 {r : Unit} {S1 : gS} (C : gCx p l R s m args meth c D K RX6 cX6_readsStep 3 (Option.none : Option Jvm.ClassFile.FieldType) [] "readsStep" u0) {rec : (Option Nat) → gS → Option (Unit × gS)} {fr0 lo0 : Nat} (hrec : ∀ (p0 : Option Nat) (S : gS) (r : Unit) (S1 : gS), rec p0 S = some (r, S1) → gMet l D K yX6_readsStep (ws_ yX6_readsStep cX6_readsStep 3 (Option.none : Option Jvm.ClassFile.FieldType)) fr0 lo0 [va_rf p0] S (.inl none) S1) (hRf : R.frames = (fr0 + 6)) (hRl : R.locals = (lo0 + 209)) : ∀ (a0 : Option Nat) (a1 : Int32) (a2 : Option Nat) (S : gS), fX6_readsStep_j134 rec a0 a1 a2 S = some (r, S1) → gW p l e R s m args below meth c D K 3 u0 (gEnd below args s D K u0 (.inl none) S1) S 134 [(0, va_rf a0), (1, .int a1), (2, va_rf a2)] [] := by
  intro a0 a1 a2 S hF
  unfold fX6_readsStep_j134 at hF
  refine g_iload_n C 1 dX6_readsStep_134 rfl ?_
  refine g_bipush (v := (7 : Int32)) C dX6_readsStep_135 rfl ?_
  refine g_icmp_ne C 207 dX6_readsStep_137 rfl hF (fun c hF => ?_) (fun c hF => ?_)
  · exact g_sub [0, 2] rfl (wfX6_readsStep_j207 C hrec hRf hRl a0 a2 S hF)
  · refine g_aload_n C 2 dX6_readsStep_140 rfl ?_
    refine g_iconst (v := (1 : Int32)) C dX6_readsStep_141 rfl ?_
    refine g_aload_n C 0 dX6_readsStep_142 rfl ?_
    refine g_iconst (v := (0 : Int32)) C dX6_readsStep_143 rfl ?_
    refine g_bipush (v := (60 : Int32)) C dX6_readsStep_144 rfl ?_
    obtain ⟨x1, S2, h, hF⟩ := gB_some hF
    obtain ⟨hi, h⟩ := gV_some h
    refine g_after (g_runV (n := 2) C dX6_readsStep_146 rfl hi (mX6_number C.2.2.2.2.2.2.2.2.2.2.2.1 a0 (0 : Int32) (60 : Int32) S _ _ h) (lw_V q2232 q2234 qs56 q124 q2235) (by decide +kernel) ⟨by rw [hRf]; omega, by rw [hRl]; omega⟩ rfl rfl (gle (gc_i (gc_r gc_0)) (by decide))) ?_
    refine g_iast C dX6_readsStep_149 hF (fun S3 hF => ?_)
    refine g_aload_n C 0 dX6_readsStep_150 rfl ?_
    refine g_bipush (v := (91 : Int32)) C dX6_readsStep_151 rfl ?_
    obtain ⟨x4, S5, h, hF⟩ := gB_some hF
    obtain ⟨hi, h⟩ := gV_some h
    refine g_after (g_runV (n := 1) C dX6_readsStep_153 rfl hi (mX6_sign C.2.2.2.2.2.2.2.2.2.2.2.1 a0 (91 : Int32) S3 _ _ h) (lw_V q2240 q2242 qs57 q124 q2243) (by decide +kernel) ⟨by rw [hRf]; omega, by rw [hRl]; omega⟩ rfl rfl (gle gc_0 (by decide))) ?_
    refine g_aload_n C 0 dX6_readsStep_156 rfl ?_
    obtain ⟨x6, S7, h, hF⟩ := gB_some hF
    obtain ⟨hi, h⟩ := gV_some h
    refine g_after (g_runV (n := 0) C dX6_readsStep_157 rfl hi (mX6_blanks C.2.2.2.2.2.2.2.2.2.2.2.1 a0 S5 _ _ h) (lw_V q2191 q2193 qs48 q124 q2194) (by decide +kernel) ⟨by rw [hRf]; omega, by rw [hRl]; omega⟩ rfl rfl (gle gc_0 (by decide))) ?_
    exact g_sub [0, 2] rfl (wfX6_readsStep_l160 C hrec hRf hRl gFU a0 a2 S7 hF)
theorem wfX6_readsStep_j120 {r : Unit} {S1 : gS} (C : gCx p l R s m args meth c D K RX6 cX6_readsStep 3 (Option.none : Option Jvm.ClassFile.FieldType) [] "readsStep" u0) {rec : (Option Nat) → gS → Option (Unit × gS)} {fr0 lo0 : Nat} (hrec : ∀ (p0 : Option Nat) (S : gS) (r : Unit) (S1 : gS), rec p0 S = some (r, S1) → gMet l D K yX6_readsStep (ws_ yX6_readsStep cX6_readsStep 3 (Option.none : Option Jvm.ClassFile.FieldType)) fr0 lo0 [va_rf p0] S (.inl none) S1) (hRf : R.frames = (fr0 + 6)) (hRl : R.locals = (lo0 + 209)) : ∀ (a0 : Option Nat) (a1 : Int32) (a2 : Option Nat) (S : gS), fX6_readsStep_j120 rec a0 a1 a2 S = some (r, S1) → gW p l e R s m args below meth c D K 3 u0 (gEnd below args s D K u0 (.inl none) S1) S 120 [(0, va_rf a0), (1, .int a1), (2, va_rf a2)] [] := by
  intro a0 a1 a2 S hF
  unfold fX6_readsStep_j120 at hF
  refine g_iload_n C 1 dX6_readsStep_120 rfl ?_
  refine g_iconst (v := (5 : Int32)) C dX6_readsStep_121 rfl ?_
  refine g_icmp_ne C 134 dX6_readsStep_122 rfl hF (fun c hF => ?_) (fun c hF => ?_)
  · exact g_sub [0, 1, 2] rfl (wfX6_readsStep_j134 C hrec hRf hRl a0 a1 a2 S hF)
  · refine g_aload_n C 2 dX6_readsStep_125 rfl ?_
    refine g_iconst (v := (2 : Int32)) C dX6_readsStep_126 rfl ?_
    refine g_aload_n C 0 dX6_readsStep_127 rfl ?_
    refine g_iconst (v := (0 : Int32)) C dX6_readsStep_128 rfl ?_
    refine g_iconst (v := (5 : Int32)) C dX6_readsStep_129 rfl ?_
    obtain ⟨x1, S2, h, hF⟩ := gB_some hF
    obtain ⟨hi, h⟩ := gV_some h
    refine g_after (g_runV (n := 2) C dX6_readsStep_130 rfl hi (mX6_number C.2.2.2.2.2.2.2.2.2.2.2.1 a0 (0 : Int32) (5 : Int32) S _ _ h) (lw_V q2232 q2234 qs56 q124 q2235) (by decide +kernel) ⟨by rw [hRf]; omega, by rw [hRl]; omega⟩ rfl rfl (gle (gc_i (gc_r gc_0)) (by decide))) ?_
    refine g_iast C dX6_readsStep_133 hF (fun S3 hF => ?_)
    exact g_sub [0, 1, 2] rfl (wfX6_readsStep_j134 C hrec hRf hRl a0 a1 a2 S3 hF)
theorem wfX6_readsStep_j104 {r : Unit} {S1 : gS} (C : gCx p l R s m args meth c D K RX6 cX6_readsStep 3 (Option.none : Option Jvm.ClassFile.FieldType) [] "readsStep" u0) {rec : (Option Nat) → gS → Option (Unit × gS)} {fr0 lo0 : Nat} (hrec : ∀ (p0 : Option Nat) (S : gS) (r : Unit) (S1 : gS), rec p0 S = some (r, S1) → gMet l D K yX6_readsStep (ws_ yX6_readsStep cX6_readsStep 3 (Option.none : Option Jvm.ClassFile.FieldType)) fr0 lo0 [va_rf p0] S (.inl none) S1) (hRf : R.frames = (fr0 + 6)) (hRl : R.locals = (lo0 + 209)) : ∀ (a0 : Option Nat) (a1 : Int32) (a2 : Option Nat) (S : gS), fX6_readsStep_j104 rec a0 a1 a2 S = some (r, S1) → gW p l e R s m args below meth c D K 3 u0 (gEnd below args s D K u0 (.inl none) S1) S 104 [(0, va_rf a0), (1, .int a1), (2, va_rf a2)] [] := by
  intro a0 a1 a2 S hF
  unfold fX6_readsStep_j104 at hF
  refine g_aload_n C 2 dX6_readsStep_104 rfl ?_
  refine g_iconst (v := (1 : Int32)) C dX6_readsStep_105 rfl ?_
  refine g_aload_n C 0 dX6_readsStep_106 rfl ?_
  refine g_iconst (v := (0 : Int32)) C dX6_readsStep_107 rfl ?_
  refine g_aload_n C 0 dX6_readsStep_108 rfl ?_
  refine g_getR C dX6_readsStep_109 fd_15 (Or.inl q2040) (Or.inl rfl) hF (fun x1 hF => ?_)
  refine g_iconst (v := (0 : Int32)) C dX6_readsStep_112 rfl ?_
  refine g_iald C dX6_readsStep_113 hF (fun x2 hF => ?_)
  refine g_iconst (v := (1 : Int32)) C dX6_readsStep_114 rfl ?_
  refine g_isub C dX6_readsStep_115 ?_
  obtain ⟨x3, S4, h, hF⟩ := gB_some hF
  obtain ⟨hi, h⟩ := gV_some h
  refine g_after (g_runV (n := 2) C dX6_readsStep_116 rfl hi (mX6_number C.2.2.2.2.2.2.2.2.2.2.2.1 a0 (0 : Int32) (x2 - (1 : Int32)) S _ _ h) (lw_V q2232 q2234 qs56 q124 q2235) (by decide +kernel) ⟨by rw [hRf]; omega, by rw [hRl]; omega⟩ rfl rfl (gle (gc_i (gc_r gc_0)) (by decide))) ?_
  refine g_iast C dX6_readsStep_119 hF (fun S5 hF => ?_)
  exact g_sub [0, 1, 2] rfl (wfX6_readsStep_j120 C hrec hRf hRl a0 a1 a2 S5 hF)
theorem wfX6_readsStep_j94 {r : Unit} {S1 : gS} (C : gCx p l R s m args meth c D K RX6 cX6_readsStep 3 (Option.none : Option Jvm.ClassFile.FieldType) [] "readsStep" u0) {rec : (Option Nat) → gS → Option (Unit × gS)} {fr0 lo0 : Nat} (hrec : ∀ (p0 : Option Nat) (S : gS) (r : Unit) (S1 : gS), rec p0 S = some (r, S1) → gMet l D K yX6_readsStep (ws_ yX6_readsStep cX6_readsStep 3 (Option.none : Option Jvm.ClassFile.FieldType)) fr0 lo0 [va_rf p0] S (.inl none) S1) (hRf : R.frames = (fr0 + 6)) (hRl : R.locals = (lo0 + 209)) : ∀ (a0 : Option Nat) (a1 : Int32) (a2 : Option Nat) (S : gS), fX6_readsStep_j94 rec a0 a1 a2 S = some (r, S1) → gW p l e R s m args below meth c D K 3 u0 (gEnd below args s D K u0 (.inl none) S1) S 94 [(0, va_rf a0), (1, .int a1), (2, va_rf a2)] [] := by
  intro a0 a1 a2 S hF
  unfold fX6_readsStep_j94 at hF
  refine g_iload_n C 1 dX6_readsStep_94 rfl ?_
  refine g_iconst (v := (3 : Int32)) C dX6_readsStep_95 rfl ?_
  refine g_icmp_eq C 104 dX6_readsStep_96 rfl hF (fun c hF => ?_) (fun c hF => ?_)
  · exact g_sub [0, 1, 2] rfl (wfX6_readsStep_j104 C hrec hRf hRl a0 a1 a2 S hF)
  · refine g_iload_n C 1 dX6_readsStep_99 rfl ?_
    refine g_iconst (v := (4 : Int32)) C dX6_readsStep_100 rfl ?_
    refine g_icmp_ne C 120 dX6_readsStep_101 rfl hF (fun c hF => ?_) (fun c hF => ?_)
    · exact g_sub [0, 1, 2] rfl (wfX6_readsStep_j120 C hrec hRf hRl a0 a1 a2 S hF)
    · exact g_sub [0, 1, 2] rfl (wfX6_readsStep_j104 C hrec hRf hRl a0 a1 a2 S hF)
theorem wfX6_readsStep_j78 {r : Unit} {S1 : gS} (C : gCx p l R s m args meth c D K RX6 cX6_readsStep 3 (Option.none : Option Jvm.ClassFile.FieldType) [] "readsStep" u0) {rec : (Option Nat) → gS → Option (Unit × gS)} {fr0 lo0 : Nat} (hrec : ∀ (p0 : Option Nat) (S : gS) (r : Unit) (S1 : gS), rec p0 S = some (r, S1) → gMet l D K yX6_readsStep (ws_ yX6_readsStep cX6_readsStep 3 (Option.none : Option Jvm.ClassFile.FieldType)) fr0 lo0 [va_rf p0] S (.inl none) S1) (hRf : R.frames = (fr0 + 6)) (hRl : R.locals = (lo0 + 209)) : ∀ (a0 : Option Nat) (a1 : Int32) (a2 : Option Nat) (S : gS), fX6_readsStep_j78 rec a0 a1 a2 S = some (r, S1) → gW p l e R s m args below meth c D K 3 u0 (gEnd below args s D K u0 (.inl none) S1) S 78 [(0, va_rf a0), (1, .int a1), (2, va_rf a2)] [] := by
  intro a0 a1 a2 S hF
  unfold fX6_readsStep_j78 at hF
  refine g_aload_n C 2 dX6_readsStep_78 rfl ?_
  refine g_iconst (v := (1 : Int32)) C dX6_readsStep_79 rfl ?_
  refine g_aload_n C 0 dX6_readsStep_80 rfl ?_
  refine g_iconst (v := (0 : Int32)) C dX6_readsStep_81 rfl ?_
  refine g_aload_n C 0 dX6_readsStep_82 rfl ?_
  refine g_getR C dX6_readsStep_83 fd_15 (Or.inl q2040) (Or.inl rfl) hF (fun x1 hF => ?_)
  refine g_iconst (v := (1 : Int32)) C dX6_readsStep_86 rfl ?_
  refine g_iald C dX6_readsStep_87 hF (fun x2 hF => ?_)
  refine g_iconst (v := (1 : Int32)) C dX6_readsStep_88 rfl ?_
  refine g_isub C dX6_readsStep_89 ?_
  obtain ⟨x3, S4, h, hF⟩ := gB_some hF
  obtain ⟨hi, h⟩ := gV_some h
  refine g_after (g_runV (n := 2) C dX6_readsStep_90 rfl hi (mX6_number C.2.2.2.2.2.2.2.2.2.2.2.1 a0 (0 : Int32) (x2 - (1 : Int32)) S _ _ h) (lw_V q2232 q2234 qs56 q124 q2235) (by decide +kernel) ⟨by rw [hRf]; omega, by rw [hRl]; omega⟩ rfl rfl (gle (gc_i (gc_r gc_0)) (by decide))) ?_
  refine g_iast C dX6_readsStep_93 hF (fun S5 hF => ?_)
  exact g_sub [0, 1, 2] rfl (wfX6_readsStep_j94 C hrec hRf hRl a0 a1 a2 S5 hF)
theorem wfX6_readsStep_j33 {r : Unit} {S1 : gS} (C : gCx p l R s m args meth c D K RX6 cX6_readsStep 3 (Option.none : Option Jvm.ClassFile.FieldType) [] "readsStep" u0) {rec : (Option Nat) → gS → Option (Unit × gS)} {fr0 lo0 : Nat} (hrec : ∀ (p0 : Option Nat) (S : gS) (r : Unit) (S1 : gS), rec p0 S = some (r, S1) → gMet l D K yX6_readsStep (ws_ yX6_readsStep cX6_readsStep 3 (Option.none : Option Jvm.ClassFile.FieldType)) fr0 lo0 [va_rf p0] S (.inl none) S1) (hRf : R.frames = (fr0 + 6)) (hRl : R.locals = (lo0 + 209)) : ∀ (a0 : Option Nat) (a1 : Int32) (S : gS), fX6_readsStep_j33 rec a0 a1 S = some (r, S1) → gW p l e R s m args below meth c D K 3 u0 (gEnd below args s D K u0 (.inl none) S1) S 33 [(0, va_rf a0), (1, .int a1)] [] := by
  intro a0 a1 S hF
  unfold fX6_readsStep_j33 at hF
  refine g_aload_n C 0 dX6_readsStep_33 rfl ?_
  refine g_getI C dX6_readsStep_34 fd_48 (Or.inl q2033) (Or.inl rfl) hF (fun x1 hF => ?_)
  refine g_if_eq C 41 dX6_readsStep_37 rfl hF (fun c hF => ?_) (fun c hF => ?_)
  · refine g_aload_n C 0 dX6_readsStep_41 rfl ?_
    obtain ⟨x2, S3, h, hF⟩ := gB_some hF
    obtain ⟨hi, h⟩ := gV_some h
    refine g_after (g_runV (n := 0) C dX6_readsStep_42 rfl hi (mX6_skipWord C.2.2.2.2.2.2.2.2.2.2.2.1 a0 S _ _ h) (lw_V q2228 q2230 qs55 q124 q2231) (by decide +kernel) ⟨by rw [hRf]; omega, by rw [hRl]; omega⟩ rfl rfl (gle gc_0 (by decide))) ?_
    refine g_aload_n C 0 dX6_readsStep_45 rfl ?_
    refine g_getR C dX6_readsStep_46 fd_37 (Or.inl q2055) (Or.inl rfl) hF (fun x4 hF => ?_)
    refine g_aload_n C 0 dX6_readsStep_49 rfl ?_
    refine g_getI C dX6_readsStep_50 fd_53 (Or.inl q2056) (Or.inl rfl) hF (fun x5 hF => ?_)
    refine g_aald C (kd := 5) rfl dX6_readsStep_53 hF (fun x6 hF => ?_)
    refine g_astore_n C dX6_readsStep_54 (by decide) rfl ?_
    refine g_aload_n C 1 dX6_readsStep_55 rfl ?_
    refine g_dup C dX6_readsStep_56 (g_cr _) ?_
    refine g_getI C dX6_readsStep_57 fd_53 (Or.inl q2056) (Or.inl rfl) hF (fun x7 hF => ?_)
    refine g_iconst (v := (1 : Int32)) C dX6_readsStep_60 rfl ?_
    refine g_iadd C dX6_readsStep_61 ?_
    refine g_put C dX6_readsStep_62 fd_53 (Or.inl q2056) (Or.inl rfl) pf_0 rfl rfl hF (fun S8 hF => ?_)
    refine g_aload_n C 0 dX6_readsStep_65 rfl ?_
    refine g_iconst (v := (0 : Int32)) C dX6_readsStep_66 rfl ?_
    refine g_iload_n C 2 dX6_readsStep_67 rfl ?_
    refine g_iast C dX6_readsStep_68 hF (fun S9 hF => ?_)
    refine g_iload_n C 2 dX6_readsStep_69 rfl ?_
    refine g_if_eq C 78 dX6_readsStep_70 rfl hF (fun c hF => ?_) (fun c hF => ?_)
    · exact g_sub [1, 2, 0] rfl (wfX6_readsStep_j78 C hrec hRf hRl a0 a1 x6 S9 hF)
    · refine g_iload_n C 2 dX6_readsStep_73 rfl ?_
      refine g_iconst (v := (5 : Int32)) C dX6_readsStep_74 rfl ?_
      refine g_icmp_ne C 94 dX6_readsStep_75 rfl hF (fun c hF => ?_) (fun c hF => ?_)
      · exact g_sub [1, 2, 0] rfl (wfX6_readsStep_j94 C hrec hRf hRl a0 a1 x6 S9 hF)
      · exact g_sub [1, 2, 0] rfl (wfX6_readsStep_j78 C hrec hRf hRl a0 a1 x6 S9 hF)
  · cases hF
    exact g_vret C dX6_readsStep_40 rfl rfl
theorem wfX6_readsStep_j19 {r : Unit} {S1 : gS} (C : gCx p l R s m args meth c D K RX6 cX6_readsStep 3 (Option.none : Option Jvm.ClassFile.FieldType) [] "readsStep" u0) {rec : (Option Nat) → gS → Option (Unit × gS)} {fr0 lo0 : Nat} (hrec : ∀ (p0 : Option Nat) (S : gS) (r : Unit) (S1 : gS), rec p0 S = some (r, S1) → gMet l D K yX6_readsStep (ws_ yX6_readsStep cX6_readsStep 3 (Option.none : Option Jvm.ClassFile.FieldType)) fr0 lo0 [va_rf p0] S (.inl none) S1) (hRf : R.frames = (fr0 + 6)) (hRl : R.locals = (lo0 + 209)) : ∀ (a0 : Option Nat) (a1 : Int32) (S : gS), fX6_readsStep_j19 rec a0 a1 S = some (r, S1) → gW p l e R s m args below meth c D K 3 u0 (gEnd below args s D K u0 (.inl none) S1) S 19 [(0, va_rf a0), (1, .int a1)] [] := by
  intro a0 a1 S hF
  unfold fX6_readsStep_j19 at hF
  refine g_iload_n C 1 dX6_readsStep_19 rfl ?_
  refine g_bipush (v := (7 : Int32)) C dX6_readsStep_20 rfl ?_
  refine g_icmp_ne C 33 dX6_readsStep_22 rfl hF (fun c hF => ?_) (fun c hF => ?_)
  · exact g_sub [0, 1] rfl (wfX6_readsStep_j33 C hrec hRf hRl a0 a1 S hF)
  · refine g_aload_n C 0 dX6_readsStep_25 rfl ?_
    obtain ⟨x1, S2, h, hF⟩ := gB_some hF
    obtain ⟨hi, h⟩ := gV_some h
    refine g_after (g_runV (n := 0) C dX6_readsStep_26 rfl hi (mX6_opensOne C.2.2.2.2.2.2.2.2.2.2.2.1 a0 S _ _ h) (lw_V q2264 q2266 qs62 q124 q2267) (by decide +kernel) ⟨by rw [hRf]; omega, by rw [hRl]; omega⟩ rfl rfl (gle gc_0 (by decide))) ?_
    refine g_if_ne C 33 dX6_readsStep_29 rfl hF (fun c hF => ?_) (fun c hF => ?_)
    · exact g_sub [0, 1] rfl (wfX6_readsStep_j33 C hrec hRf hRl a0 a1 S2 hF)
    · cases hF
      exact g_vret C dX6_readsStep_32 rfl rfl
theorem mX6_readsStep {l : Launch} {D : gD} {K : gK} (hl : l.stackTraces = false) {rec : (Option Nat) → gS → Option (Unit × gS)} {fr0 lo0 : Nat} (hrec : ∀ (p0 : Option Nat) (S : gS) (r : Unit) (S1 : gS), rec p0 S = some (r, S1) → gMet l D K yX6_readsStep (ws_ yX6_readsStep cX6_readsStep 3 (Option.none : Option Jvm.ClassFile.FieldType)) fr0 lo0 [va_rf p0] S (.inl none) S1) : ∀ (p0 : Option Nat) (S : gS) (r : Unit) (S1 : gS), fX6_readsStep rec p0 S = some (r, S1) → gMet l D K yX6_readsStep (ws_ yX6_readsStep cX6_readsStep 3 (Option.none : Option Jvm.ClassFile.FieldType)) (fr0 + 6) (lo0 + 209) [va_rf p0] S (.inl none) S1 := by
  intro p0 S r S1 hF
  unfold fX6_readsStep at hF
  refine gMet.of hl (by decide +kernel) rfl (gle (lgs_r lgs_0) (by decide)) (fun p e s m below meth c R hRf hRl C _ => ?_)
  generalize hargs : ([va_rf p0] : List Value).toArray = args at C ⊢
  generalize hu0 : S.2.2.1 = u0 at C ⊢
  rw [show lv_args 0 [va_rf p0] = [(0, va_rf p0)] from (lva_r rfl lva_0)]
  refine g_aload_n C 0 dX6_readsStep_0 rfl ?_
  obtain ⟨x1, S2, h, hF⟩ := gB_some hF
  obtain ⟨hi, h⟩ := gV_some h
  refine g_after (g_runV (n := 0) C dX6_readsStep_1 rfl hi (mX6_stepHere C.2.2.2.2.2.2.2.2.2.2.2.1 p0 S _ _ h) (lw_V q2303 q2305 qs68 q124 q2306) (by decide +kernel) ⟨by rw [hRf]; omega, by rw [hRl]; omega⟩ rfl rfl (gle gc_0 (by decide))) ?_
  refine g_istore_n C dX6_readsStep_4 (by decide) (gcons rfl (gfr rfl gf0)) ?_
  refine g_iload_n C 0 dX6_readsStep_5 rfl ?_
  refine g_iconst (v := (-1 : Int32)) C dX6_readsStep_6 rfl ?_
  refine g_icmp_ne C 19 dX6_readsStep_7 rfl hF (fun c hF => ?_) (fun c hF => ?_)
  · exact g_sub [1, 0] rfl (wfX6_readsStep_j19 C hrec hRf hRl p0 x1 S2 hF)
  · refine g_aload_n C 1 dX6_readsStep_10 rfl ?_
    refine g_iconst (v := (1 : Int32)) C dX6_readsStep_11 rfl ?_
    refine g_aload_n C 1 dX6_readsStep_12 rfl ?_
    refine g_getI C dX6_readsStep_13 fd_47 (Or.inl q2032) (Or.inl rfl) hF (fun x3 hF => ?_)
    obtain ⟨x4, S5, h, hF⟩ := gB_some hF
    obtain ⟨hi, h⟩ := gV_some h
    refine g_after (g_runV (n := 2) C dX6_readsStep_16 rfl hi (mX6_wrong C.2.2.2.2.2.2.2.2.2.2.2.1 p0 (1 : Int32) x3 S2 _ _ h) (lw_V q2221 q2223 qs54 q124 q2224) (by decide +kernel) ⟨by rw [hRf]; omega, by rw [hRl]; omega⟩ rfl rfl (gle gc_0 (by decide))) ?_
    exact g_sub [1, 0] rfl (wfX6_readsStep_j19 C hrec hRf hRl p0 x1 S5 hF)
theorem kX6_readsStep {l : Launch} {D : gD} {K : gK} (hl : l.stackTraces = false) : ∀ (d : Nat) (p0 : Option Nat) (S : gS) (r : Unit) (S1 : gS), rX6_readsStep d p0 S = some (r, S1) → gMet l D K yX6_readsStep (ws_ yX6_readsStep cX6_readsStep 3 (Option.none : Option Jvm.ClassFile.FieldType)) (6 * d) (209 * d) [va_rf p0] S (.inl none) S1 := by
  intro d
  induction d with
  | zero => intro p0 S r S1 hF; cases hF
  | succ d ih =>
    intro p0 S r S1 hF
    exact mX6_readsStep hl ih p0 S r S1 hF
/-! VowelChoirModel.copies([I[I)V -/
def fX6_copies_i2 (ih : (Option Nat) → (Option Nat) → (Int32) → gS → Option (Unit × gS)) (a0 : Option Nat) (a1 : Option Nat) (a2 : Int32) (S : gS) : Option (Unit × gS) :=
  (if (57 : Int32) ≤ a2 then
  some ((), S)
  else
  (oLdI 0 a0 a2 S).bind fun x1 =>
  (oStI 0 a1 a2 x1 S).bind fun S2 =>
  ih a0 a1 (a2 + (1 : Int32)) S2)
def fX6_copies_l2 : Nat → (Option Nat) → (Option Nat) → (Int32) → gS → Option (Unit × gS)
  | 0 => fun _ _ _ _ => none
  | n + 1 => fun a0 a1 a2 S => fX6_copies_i2 (fX6_copies_l2 n) a0 a1 a2 S
def fX6_copies (p0 : Option Nat) (p1 : Option Nat) (S : gS) : Option (Unit × gS) :=
  fX6_copies_l2 gFU p0 p1 (0 : Int32) S
theorem wfX6_copies_l2 {r : Unit} {S1 : gS} (C : gCx p l R s m args meth c D K RX6 cX6_copies 3 (Option.none : Option Jvm.ClassFile.FieldType) [] "copies" u0) (hRf : R.frames = 1) (hRl : R.locals = 100) : ∀ (n : Nat) (a0 : Option Nat) (a1 : Option Nat) (a2 : Int32) (S : gS), fX6_copies_l2 n a0 a1 a2 S = some (r, S1) → gW p l e R s m args below meth c D K 3 u0 (gEnd below args s D K u0 (.inl none) S1) S 2 [(0, va_rf a0), (1, va_rf a1), (2, .int a2)] [] := by
  intro n
  induction n with
  | zero => intro a0 a1 a2 S hF; cases hF
  | succ n hih =>
    intro a0 a1 a2 S hF
    have hF : fX6_copies_i2 (fX6_copies_l2 n) a0 a1 a2 S = some (r, S1) := hF
    revert hF hih
    generalize fX6_copies_l2 n = ih
    intro hih hF
    unfold fX6_copies_i2 at hF
    refine g_iload_n C 2 dX6_copies_2 rfl ?_
    refine g_bipush (v := (57 : Int32)) C dX6_copies_3 rfl ?_
    refine g_icmp_ge C 20 dX6_copies_5 rfl hF (fun c hF => ?_) (fun c hF => ?_)
    · cases hF
      exact g_vret C dX6_copies_20 rfl rfl
    · refine g_aload_n C 1 dX6_copies_8 rfl ?_
      refine g_iload_n C 2 dX6_copies_9 rfl ?_
      refine g_aload_n C 0 dX6_copies_10 rfl ?_
      refine g_iload_n C 2 dX6_copies_11 rfl ?_
      refine g_iald C dX6_copies_12 hF (fun x1 hF => ?_)
      refine g_iast C dX6_copies_13 hF (fun S2 hF => ?_)
      refine g_iinc (v := (1 : Int32)) C 2 dX6_copies_14 rfl rfl (by decide) (gcons rfl (gfk rfl rfl (gfr rfl (gfd rfl gf0)))) ?_
      refine g_goto C 2 dX6_copies_17 rfl ?_
      exact g_sub [1, 2, 0] rfl (hih a0 a1 (a2 + (1 : Int32)) S2 hF)
theorem mX6_copies {l : Launch} {D : gD} {K : gK} (hl : l.stackTraces = false) : ∀ (p0 : Option Nat) (p1 : Option Nat) (S : gS) (r : Unit) (S1 : gS), fX6_copies p0 p1 S = some (r, S1) → gMet l D K yX6_copies (ws_ yX6_copies cX6_copies 3 (Option.none : Option Jvm.ClassFile.FieldType)) 1 100 [va_rf p0, va_rf p1] S (.inl none) S1 := by
  intro p0 p1 S r S1 hF
  unfold fX6_copies at hF
  refine gMet.of hl (by decide +kernel) rfl (gle (lgs_r (lgs_r lgs_0)) (by decide)) (fun p e s m below meth c R hRf hRl C _ => ?_)
  generalize hargs : ([va_rf p0, va_rf p1] : List Value).toArray = args at C ⊢
  generalize hu0 : S.2.2.1 = u0 at C ⊢
  rw [show lv_args 0 [va_rf p0, va_rf p1] = [(0, va_rf p0), (1, va_rf p1)] from (lva_r rfl (lva_r rfl lva_0))]
  refine g_iconst (v := (0 : Int32)) C dX6_copies_0 rfl ?_
  refine g_istore_n C dX6_copies_1 (by decide) (gcons rfl (gfk rfl rfl (gfr rfl gf0))) ?_
  exact g_sub [1, 2, 0] rfl (wfX6_copies_l2 C hRf hRl gFU p0 p1 (0 : Int32) S hF)
/-! VowelChoirModel.less(II)I -/
def fX6_less (p0 : Int32) (p1 : Int32) : Int32 :=
  (if p1 ≤ p0 then
  p1
  else
  p0)
theorem mX6_less {l : Launch} {D : gD} {K : gK} (hl : l.stackTraces = false) : ∀ (p0 : Int32) (p1 : Int32) (S : gS) (r : Int32), fX6_less p0 p1 = r → gMet l D K yX6_less (ws_ yX6_less cX6_less 2 (Option.some Jvm.ClassFile.FieldType.int)) 1 100 [.int p0, .int p1] S (.inl (some (.int r))) S := by
  intro p0 p1 S r hF
  unfold fX6_less at hF
  refine gMet.of hl (by decide +kernel) rfl (gle (lgs_i (lgs_i lgs_0)) (by decide)) (fun p e s m below meth c R hRf hRl C _ => ?_)
  generalize hargs : ([.int p0, .int p1] : List Value).toArray = args at C ⊢
  generalize hu0 : S.2.2.1 = u0 at C ⊢
  rw [show lv_args 0 [.int p0, .int p1] = [(0, .int p0), (1, .int p1)] from (lva_i rfl (lva_i rfl lva_0))]
  refine g_iload_n C 0 dX6_less_0 rfl ?_
  refine g_iload_n C 1 dX6_less_1 rfl ?_
  refine g_icmp_ge C 9 dX6_less_2 rfl hF (fun c hF => ?_) (fun c hF => ?_)
  · refine g_iload_n C 1 dX6_less_9 rfl ?_
    subst hF
    exact g_iret C dX6_less_10 rfl rfl
  · refine g_iload_n C 0 dX6_less_5 rfl ?_
    refine g_goto C 10 dX6_less_6 rfl ?_
    subst hF
    exact g_iret C dX6_less_10 rfl rfl
/-! VowelChoirModel.more(II)I -/
def fX6_more (p0 : Int32) (p1 : Int32) : Int32 :=
  (if p0 ≤ p1 then
  p1
  else
  p0)
theorem mX6_more {l : Launch} {D : gD} {K : gK} (hl : l.stackTraces = false) : ∀ (p0 : Int32) (p1 : Int32) (S : gS) (r : Int32), fX6_more p0 p1 = r → gMet l D K yX6_more (ws_ yX6_more cX6_more 2 (Option.some Jvm.ClassFile.FieldType.int)) 1 100 [.int p0, .int p1] S (.inl (some (.int r))) S := by
  intro p0 p1 S r hF
  unfold fX6_more at hF
  refine gMet.of hl (by decide +kernel) rfl (gle (lgs_i (lgs_i lgs_0)) (by decide)) (fun p e s m below meth c R hRf hRl C _ => ?_)
  generalize hargs : ([.int p0, .int p1] : List Value).toArray = args at C ⊢
  generalize hu0 : S.2.2.1 = u0 at C ⊢
  rw [show lv_args 0 [.int p0, .int p1] = [(0, .int p0), (1, .int p1)] from (lva_i rfl (lva_i rfl lva_0))]
  refine g_iload_n C 0 dX6_more_0 rfl ?_
  refine g_iload_n C 1 dX6_more_1 rfl ?_
  refine g_icmp_le C 9 dX6_more_2 rfl hF (fun c hF => ?_) (fun c hF => ?_)
  · refine g_iload_n C 1 dX6_more_9 rfl ?_
    subst hF
    exact g_iret C dX6_more_10 rfl rfl
  · refine g_iload_n C 0 dX6_more_5 rfl ?_
    refine g_goto C 10 dX6_more_6 rfl ?_
    subst hF
    exact g_iret C dX6_more_10 rfl rfl
/-! VowelChoirModel.by(III)I -/
def fX6_by (p0 : Int32) (p1 : Int32) (p2 : Int32) (S : gS) : Option Int32 :=
  (if p0 = (2 : Int32) then
  some (p1 + p2)
  else
  if p0 = (3 : Int32) then
  some (p1 - p2)
  else
  if p0 = (4 : Int32) then
  some (p1 * p2)
  else
  if p0 = (5 : Int32) then
  (if p2 = 0 then
  some (0 : Int32)
  else
  (if p2 = (-1 : Int32) then
  some (-p1)
  else
  if p2 = 0 then none else
  some (p1 / p2)))
  else
  if p0 = (6 : Int32) then
  (if p2 = 0 then
  some (0 : Int32)
  else
  (if p2 = (-1 : Int32) then
  some (0 : Int32)
  else
  if p2 = 0 then none else
  some (p1 - p1 / p2 * p2)))
  else
  if p0 = (7 : Int32) then
  some (fX6_less p1 p2)
  else
  some (fX6_more p1 p2))
theorem mX6_by {l : Launch} {D : gD} {K : gK} (hl : l.stackTraces = false) : ∀ (p0 : Int32) (p1 : Int32) (p2 : Int32) (S : gS) (r : Int32), fX6_by p0 p1 p2 S = some r → gMet l D K yX6_by (ws_ yX6_by cX6_by 3 (Option.some Jvm.ClassFile.FieldType.int)) 2 121 [.int p0, .int p1, .int p2] S (.inl (some (.int r))) S := by
  intro p0 p1 p2 S r hF
  unfold fX6_by at hF
  refine gMet.of hl (by decide +kernel) rfl (gle (lgs_i (lgs_i (lgs_i lgs_0))) (by decide)) (fun p e s m below meth c R hRf hRl C _ => ?_)
  generalize hargs : ([.int p0, .int p1, .int p2] : List Value).toArray = args at C ⊢
  generalize hu0 : S.2.2.1 = u0 at C ⊢
  rw [show lv_args 0 [.int p0, .int p1, .int p2] = [(0, .int p0), (1, .int p1), (2, .int p2)] from (lva_i rfl (lva_i rfl (lva_i rfl lva_0)))]
  refine g_iload_n C 0 dX6_by_0 rfl ?_
  refine g_case hF (fun c2 hF => ?_) (fun c2 hF => ?_)
  · refine g_tableIn C (2) (39) 40 dX6_by_1 (by rw [c2]; rfl) (by decide) (by decide) rfl rfl ?_
    refine g_iload_n C 1 dX6_by_40 rfl ?_
    refine g_iload_n C 2 dX6_by_41 rfl ?_
    refine g_iadd C dX6_by_42 ?_
    cases hF
    exact g_iret C dX6_by_43 rfl rfl
  refine g_case hF (fun c3 hF => ?_) (fun c3 hF => ?_)
  · refine g_tableIn C (3) (43) 44 dX6_by_1 (by rw [c3]; rfl) (by decide) (by decide) rfl rfl ?_
    refine g_iload_n C 1 dX6_by_44 rfl ?_
    refine g_iload_n C 2 dX6_by_45 rfl ?_
    refine g_isub C dX6_by_46 ?_
    cases hF
    exact g_iret C dX6_by_47 rfl rfl
  refine g_case hF (fun c4 hF => ?_) (fun c4 hF => ?_)
  · refine g_tableIn C (4) (47) 48 dX6_by_1 (by rw [c4]; rfl) (by decide) (by decide) rfl rfl ?_
    refine g_iload_n C 1 dX6_by_48 rfl ?_
    refine g_iload_n C 2 dX6_by_49 rfl ?_
    refine g_imul C dX6_by_50 ?_
    cases hF
    exact g_iret C dX6_by_51 rfl rfl
  refine g_case hF (fun c5 hF => ?_) (fun c5 hF => ?_)
  · refine g_tableIn C (5) (51) 52 dX6_by_1 (by rw [c5]; rfl) (by decide) (by decide) rfl rfl ?_
    refine g_iload_n C 2 dX6_by_52 rfl ?_
    refine g_if_ne C 60 dX6_by_53 rfl hF (fun c hF => ?_) (fun c hF => ?_)
    · refine g_iload_n C 2 dX6_by_60 rfl ?_
      refine g_iconst (v := (-1 : Int32)) C dX6_by_61 rfl ?_
      refine g_icmp_ne C 70 dX6_by_62 rfl hF (fun c hF => ?_) (fun c hF => ?_)
      · refine g_iload_n C 1 dX6_by_70 rfl ?_
        refine g_iload_n C 2 dX6_by_71 rfl ?_
        refine g_idiv C dX6_by_72 hF (fun hF => ?_)
        cases hF
        exact g_iret C dX6_by_73 rfl rfl
      · refine g_iload_n C 1 dX6_by_65 rfl ?_
        refine g_ineg C dX6_by_66 ?_
        refine g_goto C 73 dX6_by_67 rfl ?_
        cases hF
        exact g_iret C dX6_by_73 rfl rfl
    · refine g_iconst (v := (0 : Int32)) C dX6_by_56 rfl ?_
      refine g_goto C 73 dX6_by_57 rfl ?_
      cases hF
      exact g_iret C dX6_by_73 rfl rfl
  refine g_case hF (fun c6 hF => ?_) (fun c6 hF => ?_)
  · refine g_tableIn C (6) (73) 74 dX6_by_1 (by rw [c6]; rfl) (by decide) (by decide) rfl rfl ?_
    refine g_iload_n C 2 dX6_by_74 rfl ?_
    refine g_if_eq C 83 dX6_by_75 rfl hF (fun c hF => ?_) (fun c hF => ?_)
    · refine g_iconst (v := (0 : Int32)) C dX6_by_83 rfl ?_
      refine g_goto C 90 dX6_by_84 rfl ?_
      cases hF
      exact g_iret C dX6_by_90 rfl rfl
    · refine g_iload_n C 2 dX6_by_78 rfl ?_
      refine g_iconst (v := (-1 : Int32)) C dX6_by_79 rfl ?_
      refine g_icmp_ne C 87 dX6_by_80 rfl hF (fun c hF => ?_) (fun c hF => ?_)
      · refine g_iload_n C 1 dX6_by_87 rfl ?_
        refine g_iload_n C 2 dX6_by_88 rfl ?_
        refine g_irem C dX6_by_89 hF (fun hF => ?_)
        cases hF
        exact g_iret C dX6_by_90 rfl rfl
      · refine g_iconst (v := (0 : Int32)) C dX6_by_83 rfl ?_
        refine g_goto C 90 dX6_by_84 rfl ?_
        cases hF
        exact g_iret C dX6_by_90 rfl rfl
  refine g_case hF (fun c7 hF => ?_) (fun c7 hF => ?_)
  · refine g_tableIn C (7) (90) 91 dX6_by_1 (by rw [c7]; rfl) (by decide) (by decide) rfl rfl ?_
    refine g_iload_n C 1 dX6_by_91 rfl ?_
    refine g_iload_n C 2 dX6_by_92 rfl ?_
    refine g_after (g_runS (n := 2) C dX6_by_93 (mX6_less C.2.2.2.2.2.2.2.2.2.2.2.1 p1 p2 S _ rfl) (lw_S q2341 q2342 q124 q2343) (by decide +kernel) ⟨by rw [hRf]; exact Nat.le_of_ble_eq_true rfl, by rw [hRl]; exact Nat.le_of_ble_eq_true rfl⟩ rfl rfl (gle gc_0 (by decide))) ?_
    cases hF
    exact g_iret C dX6_by_96 rfl rfl
  have hne := And.intro trivial trivial
  have n2 := lv_neT c2 (show ((2 : Int32)).toInt = 2 by decide)
  have n3 := lv_neT c3 (show ((3 : Int32)).toInt = 3 by decide)
  have n4 := lv_neT c4 (show ((4 : Int32)).toInt = 4 by decide)
  have n5 := lv_neT c5 (show ((5 : Int32)).toInt = 5 by decide)
  have n6 := lv_neT c6 (show ((6 : Int32)).toInt = 6 by decide)
  have n7 := lv_neT c7 (show ((7 : Int32)).toInt = 7 by decide)
  refine g_tableOut C 97 dX6_by_1 (by omega) rfl ?_
  refine g_iload_n C 1 dX6_by_97 rfl ?_
  refine g_iload_n C 2 dX6_by_98 rfl ?_
  refine g_after (g_runS (n := 2) C dX6_by_99 (mX6_more C.2.2.2.2.2.2.2.2.2.2.2.1 p1 p2 S _ rfl) (lw_S q2344 q2345 q124 q2346) (by decide +kernel) ⟨by rw [hRf]; exact Nat.le_of_ble_eq_true rfl, by rw [hRl]; exact Nat.le_of_ble_eq_true rfl⟩ rfl rfl (gle gc_0 (by decide))) ?_
  cases hF
  exact g_iret C dX6_by_102 rfl rfl
/-! VowelChoirModel.byLaw()I -/
def fX6_byLaw_i16 (ih : (Option Nat) → (Int32) → (Int32) → gS → Option (Int32 × gS)) (a0 : Option Nat) (a1 : Int32) (a2 : Int32) (S : gS) : Option (Int32 × gS) :=
  (oGetI [3] 19 a0 S).bind fun x1 =>
  (if x1 ≤ a2 then
  (oGetR [3] 25 a0 S).bind fun x2 =>
  (oLdI 0 x2 (0 : Int32) S).bind fun x3 =>
  some (fX6_less (30 : Int32) (fX6_more (0 : Int32) x3), S)
  else
  (oGetR [3] 21 a0 S).bind fun x4 =>
  (oLdR 5 x4 a2 S).bind fun x5 =>
  (oLdI 0 x5 (0 : Int32) S).bind fun x6 =>
  (if (2 : Int32) ≤ x6 then
  (oGetR [3] 25 a0 S).bind fun x7 =>
  (oGetR [3] 21 a0 S).bind fun x8 =>
  (oLdR 5 x8 a2 S).bind fun x9 =>
  (oLdI 0 x9 (0 : Int32) S).bind fun x10 =>
  (oGetR [3] 25 a0 S).bind fun x11 =>
  (oLdI 0 x11 ((a1 + (-1 : Int32)) - (1 : Int32)) S).bind fun x12 =>
  (oGetR [3] 25 a0 S).bind fun x13 =>
  (oLdI 0 x13 (a1 + (-1 : Int32)) S).bind fun x14 =>
  (fX6_by x10 x12 x14 S).bind fun x15 =>
  (oStI 0 x7 ((a1 + (-1 : Int32)) - (1 : Int32)) x15 S).bind fun S16 =>
  ih a0 (a1 + (-1 : Int32)) (a2 + (1 : Int32)) S16
  else
  (oGetR [3] 25 a0 S).bind fun x17 =>
  (oGetR [3] 21 a0 S).bind fun x18 =>
  (oLdR 5 x18 a2 S).bind fun x19 =>
  (oLdI 0 x19 (0 : Int32) S).bind fun x20 =>
  (if x20 = 0 then
  (oGetR [3] 21 a0 S).bind fun x27 =>
  (oLdR 5 x27 a2 S).bind fun x28 =>
  (oLdI 0 x28 (1 : Int32) S).bind fun x29 =>
  (oStI 0 x17 a1 x29 S).bind fun S30 =>
  ih a0 (a1 + (1 : Int32)) (a2 + (1 : Int32)) S30
  else
  (oGetR [3] 26 a0 S).bind fun x21 =>
  (oGetR [3] 21 a0 S).bind fun x22 =>
  (oLdR 5 x22 a2 S).bind fun x23 =>
  (oLdI 0 x23 (1 : Int32) S).bind fun x24 =>
  (oLdI 0 x21 x24 S).bind fun x25 =>
  (oStI 0 x17 a1 x25 S).bind fun S26 =>
  ih a0 (a1 + (1 : Int32)) (a2 + (1 : Int32)) S26)))
def fX6_byLaw_l16 : Nat → (Option Nat) → (Int32) → (Int32) → gS → Option (Int32 × gS)
  | 0 => fun _ _ _ _ => none
  | n + 1 => fun a0 a1 a2 S => fX6_byLaw_i16 (fX6_byLaw_l16 n) a0 a1 a2 S
def fX6_byLaw (p0 : Option Nat) (S : gS) : Option (Int32 × gS) :=
  (oGetR [3] 25 p0 S).bind fun x1 =>
  (oGetR [3] 26 p0 S).bind fun x2 =>
  (oLdI 0 x2 (0 : Int32) S).bind fun x3 =>
  (oStI 0 x1 (0 : Int32) x3 S).bind fun S4 =>
  fX6_byLaw_l16 gFU p0 (0 : Int32) (0 : Int32) S4
theorem wfX6_byLaw_l16 {r : Int32} {S1 : gS} (C : gCx p l R s m args meth c D K RX6 cX6_byLaw 3 (Option.some Jvm.ClassFile.FieldType.int) [] "byLaw" u0) (hRf : R.frames = 3) (hRl : R.locals = 143) : ∀ (n : Nat) (a0 : Option Nat) (a1 : Int32) (a2 : Int32) (S : gS), fX6_byLaw_l16 n a0 a1 a2 S = some (r, S1) → gW p l e R s m args below meth c D K 3 u0 (gEnd below args s D K u0 (.inl (some (.int r))) S1) S 16 [(0, va_rf a0), (1, .int a1), (2, .int a2)] [] := by
  intro n
  induction n with
  | zero => intro a0 a1 a2 S hF; cases hF
  | succ n hih =>
    intro a0 a1 a2 S hF
    have hF : fX6_byLaw_i16 (fX6_byLaw_l16 n) a0 a1 a2 S = some (r, S1) := hF
    revert hF hih
    generalize fX6_byLaw_l16 n = ih
    intro hih hF
    unfold fX6_byLaw_i16 at hF
    refine g_iload_n C 2 dX6_byLaw_16 rfl ?_
    refine g_aload_n C 0 dX6_byLaw_17 rfl ?_
    refine g_getI C dX6_byLaw_18 fd_23 (Or.inl q2047) (Or.inl rfl) hF (fun x1 hF => ?_)
    refine g_icmp_ge C 125 dX6_byLaw_21 rfl hF (fun c hF => ?_) (fun c hF => ?_)
    · refine g_bipush (v := (30 : Int32)) C dX6_byLaw_125 rfl ?_
      refine g_iconst (v := (0 : Int32)) C dX6_byLaw_127 rfl ?_
      refine g_aload_n C 0 dX6_byLaw_128 rfl ?_
      refine g_getR C dX6_byLaw_129 fd_35 (Or.inl q2053) (Or.inl rfl) hF (fun x2 hF => ?_)
      refine g_iconst (v := (0 : Int32)) C dX6_byLaw_132 rfl ?_
      refine g_iald C dX6_byLaw_133 hF (fun x3 hF => ?_)
      refine g_after (g_runS (n := 2) C dX6_byLaw_134 (mX6_more C.2.2.2.2.2.2.2.2.2.2.2.1 (0 : Int32) x3 S _ rfl) (lw_S q2344 q2345 q124 q2346) (by decide +kernel) ⟨by rw [hRf]; exact Nat.le_of_ble_eq_true rfl, by rw [hRl]; exact Nat.le_of_ble_eq_true rfl⟩ rfl rfl (gle (gc_i gc_0) (by decide))) ?_
      refine g_after (g_runS (n := 2) C dX6_byLaw_137 (mX6_less C.2.2.2.2.2.2.2.2.2.2.2.1 (30 : Int32) (fX6_more (0 : Int32) x3) S _ rfl) (lw_S q2341 q2342 q124 q2343) (by decide +kernel) ⟨by rw [hRf]; exact Nat.le_of_ble_eq_true rfl, by rw [hRl]; exact Nat.le_of_ble_eq_true rfl⟩ rfl rfl (gle gc_0 (by decide))) ?_
      cases hF
      exact g_iret C dX6_byLaw_140 rfl rfl
    · refine g_aload_n C 0 dX6_byLaw_24 rfl ?_
      refine g_getR C dX6_byLaw_25 fd_31 (Or.inl q2049) (Or.inl rfl) hF (fun x4 hF => ?_)
      refine g_iload_n C 2 dX6_byLaw_28 rfl ?_
      refine g_aald C (kd := 5) rfl dX6_byLaw_29 hF (fun x5 hF => ?_)
      refine g_iconst (v := (0 : Int32)) C dX6_byLaw_30 rfl ?_
      refine g_iald C dX6_byLaw_31 hF (fun x6 hF => ?_)
      refine g_iconst (v := (2 : Int32)) C dX6_byLaw_32 rfl ?_
      refine g_icmp_ge C 83 dX6_byLaw_33 rfl hF (fun c hF => ?_) (fun c hF => ?_)
      · refine g_iinc (v := (-1 : Int32)) C 1 dX6_byLaw_83 rfl rfl (by decide) (gcons rfl (gfr rfl (gfd rfl (gfk rfl rfl gf0)))) ?_
        refine g_aload_n C 1 dX6_byLaw_86 rfl ?_
        refine g_getR C dX6_byLaw_87 fd_35 (Or.inl q2053) (Or.inl rfl) hF (fun x7 hF => ?_)
        refine g_iload_n C 0 dX6_byLaw_90 rfl ?_
        refine g_iconst (v := (1 : Int32)) C dX6_byLaw_91 rfl ?_
        refine g_isub C dX6_byLaw_92 ?_
        refine g_aload_n C 1 dX6_byLaw_93 rfl ?_
        refine g_getR C dX6_byLaw_94 fd_31 (Or.inl q2049) (Or.inl rfl) hF (fun x8 hF => ?_)
        refine g_iload_n C 2 dX6_byLaw_97 rfl ?_
        refine g_aald C (kd := 5) rfl dX6_byLaw_98 hF (fun x9 hF => ?_)
        refine g_iconst (v := (0 : Int32)) C dX6_byLaw_99 rfl ?_
        refine g_iald C dX6_byLaw_100 hF (fun x10 hF => ?_)
        refine g_aload_n C 1 dX6_byLaw_101 rfl ?_
        refine g_getR C dX6_byLaw_102 fd_35 (Or.inl q2053) (Or.inl rfl) hF (fun x11 hF => ?_)
        refine g_iload_n C 0 dX6_byLaw_105 rfl ?_
        refine g_iconst (v := (1 : Int32)) C dX6_byLaw_106 rfl ?_
        refine g_isub C dX6_byLaw_107 ?_
        refine g_iald C dX6_byLaw_108 hF (fun x12 hF => ?_)
        refine g_aload_n C 1 dX6_byLaw_109 rfl ?_
        refine g_getR C dX6_byLaw_110 fd_35 (Or.inl q2053) (Or.inl rfl) hF (fun x13 hF => ?_)
        refine g_iload_n C 0 dX6_byLaw_113 rfl ?_
        refine g_iald C dX6_byLaw_114 hF (fun x14 hF => ?_)
        obtain ⟨x15, h, hF⟩ := oB hF
        refine g_after (g_runS (n := 3) C dX6_byLaw_115 (mX6_by C.2.2.2.2.2.2.2.2.2.2.2.1 x10 x12 x14 S _ h) (lw_S q2338 q2339 q124 q2340) (by decide +kernel) ⟨by rw [hRf]; exact Nat.le_of_ble_eq_true rfl, by rw [hRl]; exact Nat.le_of_ble_eq_true rfl⟩ rfl rfl (gle (gc_i (gc_r gc_0)) (by decide))) ?_
        refine g_iast C dX6_byLaw_118 hF (fun S16 hF => ?_)
        refine g_iinc (v := (1 : Int32)) C 2 dX6_byLaw_119 rfl rfl (by decide) rfl ?_
        refine g_goto C 16 dX6_byLaw_122 rfl ?_
        exact g_sub [2, 1, 0] rfl (hih a0 (a1 + (-1 : Int32)) (a2 + (1 : Int32)) S16 hF)
      · refine g_aload_n C 0 dX6_byLaw_36 rfl ?_
        refine g_getR C dX6_byLaw_37 fd_35 (Or.inl q2053) (Or.inl rfl) hF (fun x17 hF => ?_)
        refine g_iload_n C 1 dX6_byLaw_40 rfl ?_
        refine g_aload_n C 0 dX6_byLaw_41 rfl ?_
        refine g_getR C dX6_byLaw_42 fd_31 (Or.inl q2049) (Or.inl rfl) hF (fun x18 hF => ?_)
        refine g_iload_n C 2 dX6_byLaw_45 rfl ?_
        refine g_aald C (kd := 5) rfl dX6_byLaw_46 hF (fun x19 hF => ?_)
        refine g_iconst (v := (0 : Int32)) C dX6_byLaw_47 rfl ?_
        refine g_iald C dX6_byLaw_48 hF (fun x20 hF => ?_)
        refine g_if_ne C 63 dX6_byLaw_49 rfl hF (fun c hF => ?_) (fun c hF => ?_)
        · refine g_aload_n C 0 dX6_byLaw_63 rfl ?_
          refine g_getR C dX6_byLaw_64 fd_36 (Or.inl q2054) (Or.inl rfl) hF (fun x21 hF => ?_)
          refine g_aload_n C 0 dX6_byLaw_67 rfl ?_
          refine g_getR C dX6_byLaw_68 fd_31 (Or.inl q2049) (Or.inl rfl) hF (fun x22 hF => ?_)
          refine g_iload_n C 2 dX6_byLaw_71 rfl ?_
          refine g_aald C (kd := 5) rfl dX6_byLaw_72 hF (fun x23 hF => ?_)
          refine g_iconst (v := (1 : Int32)) C dX6_byLaw_73 rfl ?_
          refine g_iald C dX6_byLaw_74 hF (fun x24 hF => ?_)
          refine g_iald C dX6_byLaw_75 hF (fun x25 hF => ?_)
          refine g_iast C dX6_byLaw_76 hF (fun S26 hF => ?_)
          refine g_iinc (v := (1 : Int32)) C 1 dX6_byLaw_77 rfl rfl (by decide) (gcons rfl (gfr rfl (gfd rfl (gfk rfl rfl gf0)))) ?_
          refine g_goto C 119 dX6_byLaw_80 rfl ?_
          refine g_iinc (v := (1 : Int32)) C 2 dX6_byLaw_119 rfl rfl (by decide) rfl ?_
          refine g_goto C 16 dX6_byLaw_122 rfl ?_
          exact g_sub [2, 1, 0] rfl (hih a0 (a1 + (1 : Int32)) (a2 + (1 : Int32)) S26 hF)
        · refine g_aload_n C 0 dX6_byLaw_52 rfl ?_
          refine g_getR C dX6_byLaw_53 fd_31 (Or.inl q2049) (Or.inl rfl) hF (fun x27 hF => ?_)
          refine g_iload_n C 2 dX6_byLaw_56 rfl ?_
          refine g_aald C (kd := 5) rfl dX6_byLaw_57 hF (fun x28 hF => ?_)
          refine g_iconst (v := (1 : Int32)) C dX6_byLaw_58 rfl ?_
          refine g_iald C dX6_byLaw_59 hF (fun x29 hF => ?_)
          refine g_goto C 76 dX6_byLaw_60 rfl ?_
          refine g_iast C dX6_byLaw_76 hF (fun S30 hF => ?_)
          refine g_iinc (v := (1 : Int32)) C 1 dX6_byLaw_77 rfl rfl (by decide) (gcons rfl (gfr rfl (gfd rfl (gfk rfl rfl gf0)))) ?_
          refine g_goto C 119 dX6_byLaw_80 rfl ?_
          refine g_iinc (v := (1 : Int32)) C 2 dX6_byLaw_119 rfl rfl (by decide) rfl ?_
          refine g_goto C 16 dX6_byLaw_122 rfl ?_
          exact g_sub [2, 1, 0] rfl (hih a0 (a1 + (1 : Int32)) (a2 + (1 : Int32)) S30 hF)
theorem mX6_byLaw {l : Launch} {D : gD} {K : gK} (hl : l.stackTraces = false) : ∀ (p0 : Option Nat) (S : gS) (r : Int32) (S1 : gS), fX6_byLaw p0 S = some (r, S1) → gMet l D K yX6_byLaw (ws_ yX6_byLaw cX6_byLaw 3 (Option.some Jvm.ClassFile.FieldType.int)) 3 143 [va_rf p0] S (.inl (some (.int r))) S1 := by
  intro p0 S r S1 hF
  unfold fX6_byLaw at hF
  refine gMet.of hl (by decide +kernel) rfl (gle (lgs_r lgs_0) (by decide)) (fun p e s m below meth c R hRf hRl C _ => ?_)
  generalize hargs : ([va_rf p0] : List Value).toArray = args at C ⊢
  generalize hu0 : S.2.2.1 = u0 at C ⊢
  rw [show lv_args 0 [va_rf p0] = [(0, va_rf p0)] from (lva_r rfl lva_0)]
  refine g_iconst (v := (0 : Int32)) C dX6_byLaw_0 rfl ?_
  refine g_istore_n C dX6_byLaw_1 (by decide) (gcons rfl (gfr rfl gf0)) ?_
  refine g_aload_n C 1 dX6_byLaw_2 rfl ?_
  refine g_getR C dX6_byLaw_3 fd_35 (Or.inl q2053) (Or.inl rfl) hF (fun x1 hF => ?_)
  refine g_iconst (v := (0 : Int32)) C dX6_byLaw_6 rfl ?_
  refine g_aload_n C 1 dX6_byLaw_7 rfl ?_
  refine g_getR C dX6_byLaw_8 fd_36 (Or.inl q2054) (Or.inl rfl) hF (fun x2 hF => ?_)
  refine g_iconst (v := (0 : Int32)) C dX6_byLaw_11 rfl ?_
  refine g_iald C dX6_byLaw_12 hF (fun x3 hF => ?_)
  refine g_iast C dX6_byLaw_13 hF (fun S4 hF => ?_)
  refine g_iconst (v := (0 : Int32)) C dX6_byLaw_14 rfl ?_
  refine g_istore_n C dX6_byLaw_15 (by decide) rfl ?_
  exact g_sub [2, 1, 0] rfl (wfX6_byLaw_l16 C hRf hRl gFU p0 (0 : Int32) (0 : Int32) S4 hF)
/-! VowelChoirModel.breathBy(IIIIIIII)I -/
def fX6_breathBy (p0 : Option Nat) (p1 : Int32) (p2 : Int32) (p3 : Int32) (p4 : Int32) (p5 : Int32) (p6 : Int32) (p7 : Int32) (p8 : Int32) (S : gS) : Option (Int32 × gS) :=
  (oGetR [3] 26 p0 S).bind fun x1 =>
  (oStI 0 x1 (0 : Int32) p1 S).bind fun S2 =>
  (oGetR [3] 26 p0 S2).bind fun x3 =>
  (oStI 0 x3 (1 : Int32) p2 S2).bind fun S4 =>
  (oGetR [3] 26 p0 S4).bind fun x5 =>
  (oStI 0 x5 (2 : Int32) p3 S4).bind fun S6 =>
  (oGetR [3] 26 p0 S6).bind fun x7 =>
  (oStI 0 x7 (3 : Int32) p4 S6).bind fun S8 =>
  (oGetR [3] 26 p0 S8).bind fun x9 =>
  (oStI 0 x9 (4 : Int32) p5 S8).bind fun S10 =>
  (oGetR [3] 26 p0 S10).bind fun x11 =>
  (oStI 0 x11 (5 : Int32) p6 S10).bind fun S12 =>
  (oGetR [3] 26 p0 S12).bind fun x13 =>
  (oStI 0 x13 (6 : Int32) p7 S12).bind fun S14 =>
  (oGetR [3] 26 p0 S14).bind fun x15 =>
  (oStI 0 x15 (7 : Int32) p8 S14).bind fun S16 =>
  gB (gV [3] p0 S16 (fX6_byLaw p0 S16)) fun x17 S18 =>
  some (x17, S18)
theorem mX6_breathBy {l : Launch} {D : gD} {K : gK} (hl : l.stackTraces = false) : ∀ (p0 : Option Nat) (p1 : Int32) (p2 : Int32) (p3 : Int32) (p4 : Int32) (p5 : Int32) (p6 : Int32) (p7 : Int32) (p8 : Int32) (S : gS) (r : Int32) (S1 : gS), fX6_breathBy p0 p1 p2 p3 p4 p5 p6 p7 p8 S = some (r, S1) → gMet l D K yX6_breathBy (ws_ yX6_breathBy cX6_breathBy 9 (Option.some Jvm.ClassFile.FieldType.int)) 4 165 [va_rf p0, .int p1, .int p2, .int p3, .int p4, .int p5, .int p6, .int p7, .int p8] S (.inl (some (.int r))) S1 := by
  intro p0 p1 p2 p3 p4 p5 p6 p7 p8 S r S1 hF
  unfold fX6_breathBy at hF
  refine gMet.of hl (by decide +kernel) rfl (gle (lgs_r (lgs_i (lgs_i (lgs_i (lgs_i (lgs_i (lgs_i (lgs_i (lgs_i lgs_0))))))))) (by decide)) (fun p e s m below meth c R hRf hRl C _ => ?_)
  generalize hargs : ([va_rf p0, .int p1, .int p2, .int p3, .int p4, .int p5, .int p6, .int p7, .int p8] : List Value).toArray = args at C ⊢
  generalize hu0 : S.2.2.1 = u0 at C ⊢
  rw [show lv_args 0 [va_rf p0, .int p1, .int p2, .int p3, .int p4, .int p5, .int p6, .int p7, .int p8] = [(0, va_rf p0), (1, .int p1), (2, .int p2), (3, .int p3), (4, .int p4), (5, .int p5), (6, .int p6), (7, .int p7), (8, .int p8)] from (lva_r rfl (lva_i rfl (lva_i rfl (lva_i rfl (lva_i rfl (lva_i rfl (lva_i rfl (lva_i rfl (lva_i rfl lva_0)))))))))]
  refine g_aload_n C 0 dX6_breathBy_0 rfl ?_
  refine g_getR C dX6_breathBy_1 fd_36 (Or.inl q2054) (Or.inl rfl) hF (fun x1 hF => ?_)
  refine g_iconst (v := (0 : Int32)) C dX6_breathBy_4 rfl ?_
  refine g_iload_n C 1 dX6_breathBy_5 rfl ?_
  refine g_iast C dX6_breathBy_6 hF (fun S2 hF => ?_)
  refine g_aload_n C 0 dX6_breathBy_7 rfl ?_
  refine g_getR C dX6_breathBy_8 fd_36 (Or.inl q2054) (Or.inl rfl) hF (fun x3 hF => ?_)
  refine g_iconst (v := (1 : Int32)) C dX6_breathBy_11 rfl ?_
  refine g_iload_n C 2 dX6_breathBy_12 rfl ?_
  refine g_iast C dX6_breathBy_13 hF (fun S4 hF => ?_)
  refine g_aload_n C 0 dX6_breathBy_14 rfl ?_
  refine g_getR C dX6_breathBy_15 fd_36 (Or.inl q2054) (Or.inl rfl) hF (fun x5 hF => ?_)
  refine g_iconst (v := (2 : Int32)) C dX6_breathBy_18 rfl ?_
  refine g_iload_n C 3 dX6_breathBy_19 rfl ?_
  refine g_iast C dX6_breathBy_20 hF (fun S6 hF => ?_)
  refine g_aload_n C 0 dX6_breathBy_21 rfl ?_
  refine g_getR C dX6_breathBy_22 fd_36 (Or.inl q2054) (Or.inl rfl) hF (fun x7 hF => ?_)
  refine g_iconst (v := (3 : Int32)) C dX6_breathBy_25 rfl ?_
  refine g_iload C 4 dX6_breathBy_26 rfl ?_
  refine g_iast C dX6_breathBy_28 hF (fun S8 hF => ?_)
  refine g_aload_n C 0 dX6_breathBy_29 rfl ?_
  refine g_getR C dX6_breathBy_30 fd_36 (Or.inl q2054) (Or.inl rfl) hF (fun x9 hF => ?_)
  refine g_iconst (v := (4 : Int32)) C dX6_breathBy_33 rfl ?_
  refine g_iload C 5 dX6_breathBy_34 rfl ?_
  refine g_iast C dX6_breathBy_36 hF (fun S10 hF => ?_)
  refine g_aload_n C 0 dX6_breathBy_37 rfl ?_
  refine g_getR C dX6_breathBy_38 fd_36 (Or.inl q2054) (Or.inl rfl) hF (fun x11 hF => ?_)
  refine g_iconst (v := (5 : Int32)) C dX6_breathBy_41 rfl ?_
  refine g_iload C 6 dX6_breathBy_42 rfl ?_
  refine g_iast C dX6_breathBy_44 hF (fun S12 hF => ?_)
  refine g_aload_n C 0 dX6_breathBy_45 rfl ?_
  refine g_getR C dX6_breathBy_46 fd_36 (Or.inl q2054) (Or.inl rfl) hF (fun x13 hF => ?_)
  refine g_bipush (v := (6 : Int32)) C dX6_breathBy_49 rfl ?_
  refine g_iload C 7 dX6_breathBy_51 rfl ?_
  refine g_iast C dX6_breathBy_53 hF (fun S14 hF => ?_)
  refine g_aload_n C 0 dX6_breathBy_54 rfl ?_
  refine g_getR C dX6_breathBy_55 fd_36 (Or.inl q2054) (Or.inl rfl) hF (fun x15 hF => ?_)
  refine g_bipush (v := (7 : Int32)) C dX6_breathBy_58 rfl ?_
  refine g_iload C 8 dX6_breathBy_60 rfl ?_
  refine g_iast C dX6_breathBy_62 hF (fun S16 hF => ?_)
  refine g_aload_n C 0 dX6_breathBy_63 rfl ?_
  obtain ⟨x17, S18, h, hF⟩ := gB_some hF
  obtain ⟨hi, h⟩ := gV_some h
  refine g_after (g_runV (n := 0) C dX6_breathBy_64 rfl hi (mX6_byLaw C.2.2.2.2.2.2.2.2.2.2.2.1 p0 S16 _ _ h) (lw_V q2334 q2336 qs75 q124 q2337) (by decide +kernel) ⟨by rw [hRf]; exact Nat.le_of_ble_eq_true rfl, by rw [hRl]; exact Nat.le_of_ble_eq_true rfl⟩ rfl rfl (gle gc_0 (by decide))) ?_
  cases hF
  exact g_iret C dX6_breathBy_67 rfl rfl
/-! VowelChoirModel.breathOf([III)I -/
def fX6_breathOf (p0 : Option Nat) (p1 : Option Nat) (p2 : Int32) (p3 : Int32) (S : gS) : Option (Int32 × gS) :=
  (oGetR [3] 16 p0 S).bind fun x1 =>
  (oLdR 5 x1 p2 S).bind fun x2 =>
  (oLdI 0 x2 (1 : Int32) S).bind fun x3 =>
  (oGetR [3] 14 p0 S).bind fun x4 =>
  (oLdR 5 x4 p3 S).bind fun x5 =>
  (oLdI 0 x5 (1 : Int32) S).bind fun x6 =>
  (oLdI 0 p1 ((0 : Int32) + p3) S).bind fun x7 =>
  (oLdI 0 p1 ((14 : Int32) + p3) S).bind fun x8 =>
  (oLdI 0 p1 ((35 : Int32) + p2) S).bind fun x9 =>
  (oLdI 0 p1 (56 : Int32) S).bind fun x10 =>
  gB (gV [3] p0 S (fX6_breathBy p0 x3 x6 x7 x8 p2 x9 x10 p3 S)) fun x11 S12 =>
  some (x11, S12)
theorem mX6_breathOf {l : Launch} {D : gD} {K : gK} (hl : l.stackTraces = false) : ∀ (p0 : Option Nat) (p1 : Option Nat) (p2 : Int32) (p3 : Int32) (S : gS) (r : Int32) (S1 : gS), fX6_breathOf p0 p1 p2 p3 S = some (r, S1) → gMet l D K yX6_breathOf (ws_ yX6_breathOf cX6_breathOf 4 (Option.some Jvm.ClassFile.FieldType.int)) 5 193 [va_rf p0, va_rf p1, .int p2, .int p3] S (.inl (some (.int r))) S1 := by
  intro p0 p1 p2 p3 S r S1 hF
  unfold fX6_breathOf at hF
  refine gMet.of hl (by decide +kernel) rfl (gle (lgs_r (lgs_r (lgs_i (lgs_i lgs_0)))) (by decide)) (fun p e s m below meth c R hRf hRl C _ => ?_)
  generalize hargs : ([va_rf p0, va_rf p1, .int p2, .int p3] : List Value).toArray = args at C ⊢
  generalize hu0 : S.2.2.1 = u0 at C ⊢
  rw [show lv_args 0 [va_rf p0, va_rf p1, .int p2, .int p3] = [(0, va_rf p0), (1, va_rf p1), (2, .int p2), (3, .int p3)] from (lva_r rfl (lva_r rfl (lva_i rfl (lva_i rfl lva_0))))]
  refine g_aload_n C 0 dX6_breathOf_0 rfl ?_
  refine g_aload_n C 0 dX6_breathOf_1 rfl ?_
  refine g_getR C dX6_breathOf_2 fd_19 (Or.inl q2044) (Or.inl rfl) hF (fun x1 hF => ?_)
  refine g_iload_n C 2 dX6_breathOf_5 rfl ?_
  refine g_aald C (kd := 5) rfl dX6_breathOf_6 hF (fun x2 hF => ?_)
  refine g_iconst (v := (1 : Int32)) C dX6_breathOf_7 rfl ?_
  refine g_iald C dX6_breathOf_8 hF (fun x3 hF => ?_)
  refine g_aload_n C 0 dX6_breathOf_9 rfl ?_
  refine g_getR C dX6_breathOf_10 fd_16 (Or.inl q2042) (Or.inl rfl) hF (fun x4 hF => ?_)
  refine g_iload_n C 3 dX6_breathOf_13 rfl ?_
  refine g_aald C (kd := 5) rfl dX6_breathOf_14 hF (fun x5 hF => ?_)
  refine g_iconst (v := (1 : Int32)) C dX6_breathOf_15 rfl ?_
  refine g_iald C dX6_breathOf_16 hF (fun x6 hF => ?_)
  refine g_aload_n C 1 dX6_breathOf_17 rfl ?_
  refine g_iconst (v := (0 : Int32)) C dX6_breathOf_18 rfl ?_
  refine g_iload_n C 3 dX6_breathOf_19 rfl ?_
  refine g_iadd C dX6_breathOf_20 ?_
  refine g_iald C dX6_breathOf_21 hF (fun x7 hF => ?_)
  refine g_aload_n C 1 dX6_breathOf_22 rfl ?_
  refine g_bipush (v := (14 : Int32)) C dX6_breathOf_23 rfl ?_
  refine g_iload_n C 3 dX6_breathOf_25 rfl ?_
  refine g_iadd C dX6_breathOf_26 ?_
  refine g_iald C dX6_breathOf_27 hF (fun x8 hF => ?_)
  refine g_iload_n C 2 dX6_breathOf_28 rfl ?_
  refine g_aload_n C 1 dX6_breathOf_29 rfl ?_
  refine g_bipush (v := (35 : Int32)) C dX6_breathOf_30 rfl ?_
  refine g_iload_n C 2 dX6_breathOf_32 rfl ?_
  refine g_iadd C dX6_breathOf_33 ?_
  refine g_iald C dX6_breathOf_34 hF (fun x9 hF => ?_)
  refine g_aload_n C 1 dX6_breathOf_35 rfl ?_
  refine g_bipush (v := (56 : Int32)) C dX6_breathOf_36 rfl ?_
  refine g_iald C dX6_breathOf_38 hF (fun x10 hF => ?_)
  refine g_iload_n C 3 dX6_breathOf_39 rfl ?_
  obtain ⟨x11, S12, h, hF⟩ := gB_some hF
  obtain ⟨hi, h⟩ := gV_some h
  refine g_after (g_runV (n := 8) C dX6_breathOf_40 rfl hi (mX6_breathBy C.2.2.2.2.2.2.2.2.2.2.2.1 p0 x3 x6 x7 x8 p2 x9 x10 p3 S _ _ h) (lw_V q2330 q2332 qs74 q124 q2333) (by decide +kernel) ⟨by rw [hRf]; exact Nat.le_of_ble_eq_true rfl, by rw [hRl]; exact Nat.le_of_ble_eq_true rfl⟩ rfl rfl (gle gc_0 (by decide))) ?_
  cases hF
  exact g_iret C dX6_breathOf_43 rfl rfl
/-! VowelChoirModel.sungBy([II)I -/
def fX6_sungBy_i2 (ih : (Option Nat) → (Option Nat) → (Int32) → (Int32) → gS → Option (Int32 × gS)) (a0 : Option Nat) (a1 : Option Nat) (a2 : Int32) (a3 : Int32) (S : gS) : Option (Int32 × gS) :=
  (oGetR [3] 12 a0 S).bind fun x1 =>
  (oLdI 0 x1 (0 : Int32) S).bind fun x2 =>
  (if x2 ≤ a3 then
  some ((-1 : Int32), S)
  else
  (oGetR [3] 14 a0 S).bind fun x3 =>
  (oLdR 5 x3 a3 S).bind fun x4 =>
  (oLdI 0 x4 (0 : Int32) S).bind fun x5 =>
  (oLdI 0 a1 ((35 : Int32) + a2) S).bind fun x6 =>
  (if x5 = x6 then
  (oLdI 0 a1 ((7 : Int32) + a3) S).bind fun x7 =>
  (if x7 = 0 then
  gB (gV [3] a0 S (fX6_breathOf a0 a1 a2 a3 S)) fun x8 S9 =>
  (oLdI 0 a1 ((0 : Int32) + a3) S9).bind fun x10 =>
  (if x10 < x8 then
  ih a0 a1 a2 (a3 + (1 : Int32)) S9
  else
  some (a3, S9))
  else
  ih a0 a1 a2 (a3 + (1 : Int32)) S)
  else
  ih a0 a1 a2 (a3 + (1 : Int32)) S))
def fX6_sungBy_l2 : Nat → (Option Nat) → (Option Nat) → (Int32) → (Int32) → gS → Option (Int32 × gS)
  | 0 => fun _ _ _ _ _ => none
  | n + 1 => fun a0 a1 a2 a3 S => fX6_sungBy_i2 (fX6_sungBy_l2 n) a0 a1 a2 a3 S
def fX6_sungBy (p0 : Option Nat) (p1 : Option Nat) (p2 : Int32) (S : gS) : Option (Int32 × gS) :=
  fX6_sungBy_l2 gFU p0 p1 p2 (0 : Int32) S
theorem wfX6_sungBy_l2 {r : Int32} {S1 : gS} (C : gCx p l R s m args meth c D K RX6 cX6_sungBy 4 (Option.some Jvm.ClassFile.FieldType.int) [] "sungBy" u0) (hRf : R.frames = 6) (hRl : R.locals = 216) : ∀ (n : Nat) (a0 : Option Nat) (a1 : Option Nat) (a2 : Int32) (a3 : Int32) (S : gS), fX6_sungBy_l2 n a0 a1 a2 a3 S = some (r, S1) → gW p l e R s m args below meth c D K 4 u0 (gEnd below args s D K u0 (.inl (some (.int r))) S1) S 2 [(0, va_rf a0), (1, va_rf a1), (2, .int a2), (3, .int a3)] [] := by
  intro n
  induction n with
  | zero => intro a0 a1 a2 a3 S hF; cases hF
  | succ n hih =>
    intro a0 a1 a2 a3 S hF
    have hF : fX6_sungBy_i2 (fX6_sungBy_l2 n) a0 a1 a2 a3 S = some (r, S1) := hF
    revert hF hih
    generalize fX6_sungBy_l2 n = ih
    intro hih hF
    unfold fX6_sungBy_i2 at hF
    refine g_iload_n C 3 dX6_sungBy_2 rfl ?_
    refine g_aload_n C 0 dX6_sungBy_3 rfl ?_
    refine g_getR C dX6_sungBy_4 fd_15 (Or.inl q2040) (Or.inl rfl) hF (fun x1 hF => ?_)
    refine g_iconst (v := (0 : Int32)) C dX6_sungBy_7 rfl ?_
    refine g_iald C dX6_sungBy_8 hF (fun x2 hF => ?_)
    refine g_icmp_ge C 61 dX6_sungBy_9 rfl hF (fun c hF => ?_) (fun c hF => ?_)
    · refine g_iconst (v := (-1 : Int32)) C dX6_sungBy_61 rfl ?_
      cases hF
      exact g_iret C dX6_sungBy_62 rfl rfl
    · refine g_aload_n C 0 dX6_sungBy_12 rfl ?_
      refine g_getR C dX6_sungBy_13 fd_16 (Or.inl q2042) (Or.inl rfl) hF (fun x3 hF => ?_)
      refine g_iload_n C 3 dX6_sungBy_16 rfl ?_
      refine g_aald C (kd := 5) rfl dX6_sungBy_17 hF (fun x4 hF => ?_)
      refine g_iconst (v := (0 : Int32)) C dX6_sungBy_18 rfl ?_
      refine g_iald C dX6_sungBy_19 hF (fun x5 hF => ?_)
      refine g_aload_n C 1 dX6_sungBy_20 rfl ?_
      refine g_bipush (v := (35 : Int32)) C dX6_sungBy_21 rfl ?_
      refine g_iload_n C 2 dX6_sungBy_23 rfl ?_
      refine g_iadd C dX6_sungBy_24 ?_
      refine g_iald C dX6_sungBy_25 hF (fun x6 hF => ?_)
      refine g_icmp_ne C 55 dX6_sungBy_26 rfl hF (fun c hF => ?_) (fun c hF => ?_)
      · refine g_iinc (v := (1 : Int32)) C 3 dX6_sungBy_55 rfl rfl (by decide) rfl ?_
        refine g_goto C 2 dX6_sungBy_58 rfl ?_
        exact g_sub [1, 2, 3, 0] rfl (hih a0 a1 a2 (a3 + (1 : Int32)) S hF)
      · refine g_aload_n C 1 dX6_sungBy_29 rfl ?_
        refine g_bipush (v := (7 : Int32)) C dX6_sungBy_30 rfl ?_
        refine g_iload_n C 3 dX6_sungBy_32 rfl ?_
        refine g_iadd C dX6_sungBy_33 ?_
        refine g_iald C dX6_sungBy_34 hF (fun x7 hF => ?_)
        refine g_if_ne C 55 dX6_sungBy_35 rfl hF (fun c hF => ?_) (fun c hF => ?_)
        · refine g_iinc (v := (1 : Int32)) C 3 dX6_sungBy_55 rfl rfl (by decide) rfl ?_
          refine g_goto C 2 dX6_sungBy_58 rfl ?_
          exact g_sub [1, 2, 3, 0] rfl (hih a0 a1 a2 (a3 + (1 : Int32)) S hF)
        · refine g_aload_n C 0 dX6_sungBy_38 rfl ?_
          refine g_aload_n C 1 dX6_sungBy_39 rfl ?_
          refine g_iload_n C 2 dX6_sungBy_40 rfl ?_
          refine g_iload_n C 3 dX6_sungBy_41 rfl ?_
          obtain ⟨x8, S9, h, hF⟩ := gB_some hF
          obtain ⟨hi, h⟩ := gV_some h
          refine g_after (g_runV (n := 3) C dX6_sungBy_42 rfl hi (mX6_breathOf C.2.2.2.2.2.2.2.2.2.2.2.1 a0 a1 a2 a3 S _ _ h) (lw_V q2326 q2328 qs73 q124 q2329) (by decide +kernel) ⟨by rw [hRf]; exact Nat.le_of_ble_eq_true rfl, by rw [hRl]; exact Nat.le_of_ble_eq_true rfl⟩ rfl rfl (gle gc_0 (by decide))) ?_
          refine g_aload_n C 1 dX6_sungBy_45 rfl ?_
          refine g_iconst (v := (0 : Int32)) C dX6_sungBy_46 rfl ?_
          refine g_iload_n C 3 dX6_sungBy_47 rfl ?_
          refine g_iadd C dX6_sungBy_48 ?_
          refine g_iald C dX6_sungBy_49 hF (fun x10 hF => ?_)
          refine g_icmp_gt C 55 dX6_sungBy_50 rfl hF (fun c hF => ?_) (fun c hF => ?_)
          · refine g_iinc (v := (1 : Int32)) C 3 dX6_sungBy_55 rfl rfl (by decide) rfl ?_
            refine g_goto C 2 dX6_sungBy_58 rfl ?_
            exact g_sub [1, 2, 3, 0] rfl (hih a0 a1 a2 (a3 + (1 : Int32)) S9 hF)
          · refine g_iload_n C 3 dX6_sungBy_53 rfl ?_
            cases hF
            exact g_iret C dX6_sungBy_54 rfl rfl
theorem mX6_sungBy {l : Launch} {D : gD} {K : gK} (hl : l.stackTraces = false) : ∀ (p0 : Option Nat) (p1 : Option Nat) (p2 : Int32) (S : gS) (r : Int32) (S1 : gS), fX6_sungBy p0 p1 p2 S = some (r, S1) → gMet l D K yX6_sungBy (ws_ yX6_sungBy cX6_sungBy 4 (Option.some Jvm.ClassFile.FieldType.int)) 6 216 [va_rf p0, va_rf p1, .int p2] S (.inl (some (.int r))) S1 := by
  intro p0 p1 p2 S r S1 hF
  unfold fX6_sungBy at hF
  refine gMet.of hl (by decide +kernel) rfl (gle (lgs_r (lgs_r (lgs_i lgs_0))) (by decide)) (fun p e s m below meth c R hRf hRl C _ => ?_)
  generalize hargs : ([va_rf p0, va_rf p1, .int p2] : List Value).toArray = args at C ⊢
  generalize hu0 : S.2.2.1 = u0 at C ⊢
  rw [show lv_args 0 [va_rf p0, va_rf p1, .int p2] = [(0, va_rf p0), (1, va_rf p1), (2, .int p2)] from (lva_r rfl (lva_r rfl (lva_i rfl lva_0)))]
  refine g_iconst (v := (0 : Int32)) C dX6_sungBy_0 rfl ?_
  refine g_istore_n C dX6_sungBy_1 (by decide) rfl ?_
  exact g_sub [1, 2, 3, 0] rfl (wfX6_sungBy_l2 C hRf hRl gFU p0 p1 p2 (0 : Int32) S hF)
/-! VowelChoirModel.sings([II)Z -/
def fX6_sings (p0 : Option Nat) (p1 : Option Nat) (p2 : Int32) (S : gS) : Option (Int32 × gS) :=
  gB (gV [3] p0 S (fX6_sungBy p0 p1 p2 S)) fun x1 S2 =>
  (if x1 = (-1 : Int32) then
  some ((0 : Int32), S2)
  else
  (oLdI 0 p1 ((0 : Int32) + x1) S2).bind fun x3 =>
  gB (gV [3] p0 S2 (fX6_breathOf p0 p1 p2 x1 S2)) fun x4 S5 =>
  (oStI 0 p1 ((0 : Int32) + x1) (x3 - x4) S5).bind fun S6 =>
  (oLdI 0 p1 ((14 : Int32) + x1) S6).bind fun x7 =>
  (oStI 0 p1 ((14 : Int32) + x1) (x7 + (1 : Int32)) S6).bind fun S8 =>
  (oLdI 0 p1 ((28 : Int32) + x1) S8).bind fun x9 =>
  (oStI 0 p1 ((28 : Int32) + x1) (x9 + (1 : Int32)) S8).bind fun S10 =>
  some ((1 : Int32), S10))
theorem mX6_sings {l : Launch} {D : gD} {K : gK} (hl : l.stackTraces = false) : ∀ (p0 : Option Nat) (p1 : Option Nat) (p2 : Int32) (S : gS) (r : Int32) (S1 : gS), fX6_sings p0 p1 p2 S = some (r, S1) → gMet l D K yX6_sings (ws_ yX6_sings cX6_sings 4 (Option.some Jvm.ClassFile.FieldType.boolean)) 7 239 [va_rf p0, va_rf p1, .int p2] S (.inl (some (.int r))) S1 := by
  intro p0 p1 p2 S r S1 hF
  unfold fX6_sings at hF
  refine gMet.of hl (by decide +kernel) rfl (gle (lgs_r (lgs_r (lgs_i lgs_0))) (by decide)) (fun p e s m below meth c R hRf hRl C _ => ?_)
  generalize hargs : ([va_rf p0, va_rf p1, .int p2] : List Value).toArray = args at C ⊢
  generalize hu0 : S.2.2.1 = u0 at C ⊢
  rw [show lv_args 0 [va_rf p0, va_rf p1, .int p2] = [(0, va_rf p0), (1, va_rf p1), (2, .int p2)] from (lva_r rfl (lva_r rfl (lva_i rfl lva_0)))]
  refine g_aload_n C 0 dX6_sings_0 rfl ?_
  refine g_aload_n C 1 dX6_sings_1 rfl ?_
  refine g_iload_n C 2 dX6_sings_2 rfl ?_
  obtain ⟨x1, S2, h, hF⟩ := gB_some hF
  obtain ⟨hi, h⟩ := gV_some h
  refine g_after (g_runV (n := 2) C dX6_sings_3 rfl hi (mX6_sungBy C.2.2.2.2.2.2.2.2.2.2.2.1 p0 p1 p2 S _ _ h) (lw_V q2322 q2324 qs72 q124 q2325) (by decide +kernel) ⟨by rw [hRf]; exact Nat.le_of_ble_eq_true rfl, by rw [hRl]; exact Nat.le_of_ble_eq_true rfl⟩ rfl rfl (gle gc_0 (by decide))) ?_
  refine g_istore_n C dX6_sings_6 (by decide) rfl ?_
  refine g_iload_n C 0 dX6_sings_7 rfl ?_
  refine g_iconst (v := (-1 : Int32)) C dX6_sings_8 rfl ?_
  refine g_icmp_ne C 14 dX6_sings_9 rfl hF (fun c hF => ?_) (fun c hF => ?_)
  · refine g_aload_n C 2 dX6_sings_14 rfl ?_
    refine g_iconst (v := (0 : Int32)) C dX6_sings_15 rfl ?_
    refine g_iload_n C 0 dX6_sings_16 rfl ?_
    refine g_iadd C dX6_sings_17 ?_
    refine g_dup2 C dX6_sings_18 rfl (g_cr _) ?_
    refine g_iald C dX6_sings_19 hF (fun x3 hF => ?_)
    refine g_aload_n C 1 dX6_sings_20 rfl ?_
    refine g_aload_n C 2 dX6_sings_21 rfl ?_
    refine g_iload_n C 3 dX6_sings_22 rfl ?_
    refine g_iload_n C 0 dX6_sings_23 rfl ?_
    obtain ⟨x4, S5, h, hF⟩ := gB_some hF
    obtain ⟨hi, h⟩ := gV_some h
    refine g_after (g_runV (n := 3) C dX6_sings_24 rfl hi (mX6_breathOf C.2.2.2.2.2.2.2.2.2.2.2.1 p0 p1 p2 x1 S2 _ _ h) (lw_V q2326 q2328 qs73 q124 q2329) (by decide +kernel) ⟨by rw [hRf]; exact Nat.le_of_ble_eq_true rfl, by rw [hRl]; exact Nat.le_of_ble_eq_true rfl⟩ rfl rfl (gle (gc_i (gc_i (gc_r gc_0))) (by decide))) ?_
    refine g_isub C dX6_sings_27 ?_
    refine g_iast C dX6_sings_28 hF (fun S6 hF => ?_)
    refine g_aload_n C 2 dX6_sings_29 rfl ?_
    refine g_bipush (v := (14 : Int32)) C dX6_sings_30 rfl ?_
    refine g_iload_n C 0 dX6_sings_32 rfl ?_
    refine g_iadd C dX6_sings_33 ?_
    refine g_dup2 C dX6_sings_34 rfl (g_cr _) ?_
    refine g_iald C dX6_sings_35 hF (fun x7 hF => ?_)
    refine g_iconst (v := (1 : Int32)) C dX6_sings_36 rfl ?_
    refine g_iadd C dX6_sings_37 ?_
    refine g_iast C dX6_sings_38 hF (fun S8 hF => ?_)
    refine g_aload_n C 2 dX6_sings_39 rfl ?_
    refine g_bipush (v := (28 : Int32)) C dX6_sings_40 rfl ?_
    refine g_iload_n C 0 dX6_sings_42 rfl ?_
    refine g_iadd C dX6_sings_43 ?_
    refine g_dup2 C dX6_sings_44 rfl (g_cr _) ?_
    refine g_iald C dX6_sings_45 hF (fun x9 hF => ?_)
    refine g_iconst (v := (1 : Int32)) C dX6_sings_46 rfl ?_
    refine g_iadd C dX6_sings_47 ?_
    refine g_iast C dX6_sings_48 hF (fun S10 hF => ?_)
    refine g_iconst (v := (1 : Int32)) C dX6_sings_49 rfl ?_
    cases hF
    exact g_zret (ty := .boolean) C (rfl) dX6_sings_50 rfl rfl
  · refine g_iconst (v := (0 : Int32)) C dX6_sings_12 rfl ?_
    cases hF
    exact g_zret (ty := .boolean) C (rfl) dX6_sings_13 rfl rfl
/-! VowelChoirModel.hymns([I)V -/
def fX6_hymns_j38 (k7 : (Option Nat) → (Option Nat) → (Int32) → gS → Option (Unit × gS)) (a0 : Option Nat) (a1 : Option Nat) (a2 : Int32) (a3 : Int32) (t0 : Int32) (t1 : Int32) (t2 : Int32) (t3 : Option Nat) (S : gS) : Option (Unit × gS) :=
  (oStI 0 t3 t2 (t1 + t0) S).bind fun S1 =>
  (oGetI [3] 38 a0 S1).bind fun x2 =>
  (if a3 = 0 then
  (oPut [3] 38 a0 (.int (x2 ||| (0 : Int32))) S1).bind fun S3 =>
  k7 a0 a1 (a2 + (1 : Int32)) S3
  else
  (oPut [3] 38 a0 (.int (x2 ||| ((1 : Int32) <<< (a2 &&& 31)))) S1).bind fun S4 =>
  k7 a0 a1 (a2 + (1 : Int32)) S4)
def fX6_hymns_i7 (ih : (Option Nat) → (Option Nat) → (Int32) → gS → Option (Unit × gS)) (a0 : Option Nat) (a1 : Option Nat) (a2 : Int32) (S : gS) : Option (Unit × gS) :=
  (oGetR [3] 12 a0 S).bind fun x1 =>
  (oLdI 0 x1 (1 : Int32) S).bind fun x2 =>
  (if x2 ≤ a2 then
  some ((), S)
  else
  gB (gV [3] a0 S (fX6_sings a0 a1 a2 S)) fun x3 S4 =>
  (oLdI 0 a1 (55 : Int32) S4).bind fun x5 =>
  (if x3 = 0 then
  fX6_hymns_j38 ih a0 a1 a2 x3 (1 : Int32) x5 (55 : Int32) a1 S4
  else
  fX6_hymns_j38 ih a0 a1 a2 x3 (0 : Int32) x5 (55 : Int32) a1 S4))
def fX6_hymns_l7 : Nat → (Option Nat) → (Option Nat) → (Int32) → gS → Option (Unit × gS)
  | 0 => fun _ _ _ _ => none
  | n + 1 => fun a0 a1 a2 S => fX6_hymns_i7 (fX6_hymns_l7 n) a0 a1 a2 S
def fX6_hymns (p0 : Option Nat) (p1 : Option Nat) (S : gS) : Option (Unit × gS) :=
  (oPut [3] 38 p0 (.int ((0 : Int32))) S).bind fun S1 =>
  fX6_hymns_l7 gFU p0 p1 (0 : Int32) S1
theorem wfX6_hymns_j38 {r : Unit} {S1 : gS} (C : gCx p l R s m args meth c D K RX6 cX6_hymns 4 (Option.none : Option Jvm.ClassFile.FieldType) [] "hymns" u0) (hRf : R.frames = 8) (hRl : R.locals = 262) (k7 : (Option Nat) → (Option Nat) → (Int32) → gS → Option (Unit × gS)) (hk7 : ∀ (a0 : Option Nat) (a1 : Option Nat) (a2 : Int32) (S : gS), k7 a0 a1 a2 S = some (r, S1) → gW p l e R s m args below meth c D K 4 u0 (gEnd below args s D K u0 (.inl none) S1) S 7 [(0, va_rf a0), (1, va_rf a1), (2, .int a2)] []) : ∀ (a0 : Option Nat) (a1 : Option Nat) (a2 : Int32) (a3 : Int32) (t0 : Int32) (t1 : Int32) (t2 : Int32) (t3 : Option Nat) (S : gS), fX6_hymns_j38 k7 a0 a1 a2 a3 t0 t1 t2 t3 S = some (r, S1) → gW p l e R s m args below meth c D K 4 u0 (gEnd below args s D K u0 (.inl none) S1) S 38 [(0, va_rf a0), (1, va_rf a1), (2, .int a2), (3, .int a3)] [.int t0, .int t1, .int t2, va_rf t3] := by
  intro a0 a1 a2 a3 t0 t1 t2 t3 S hF
  unfold fX6_hymns_j38 at hF
  refine g_iadd C dX6_hymns_38 ?_
  refine g_iast C dX6_hymns_39 hF (fun S1 hF => ?_)
  refine g_aload_n C 0 dX6_hymns_40 rfl ?_
  refine g_dup C dX6_hymns_41 (g_cr _) ?_
  refine g_getI C dX6_hymns_42 fd_54 (Or.inl q2066) (Or.inl rfl) hF (fun x2 hF => ?_)
  refine g_iload_n C 3 dX6_hymns_45 rfl ?_
  refine g_if_eq C 55 dX6_hymns_46 rfl hF (fun c hF => ?_) (fun c hF => ?_)
  · refine g_iconst (v := (0 : Int32)) C dX6_hymns_55 rfl ?_
    refine g_ior C dX6_hymns_56 ?_
    refine g_put C dX6_hymns_57 fd_54 (Or.inl q2066) (Or.inl rfl) pf_0 rfl rfl hF (fun S3 hF => ?_)
    refine g_iinc (v := (1 : Int32)) C 2 dX6_hymns_60 rfl rfl (by decide) (gcons rfl (gfk rfl rfl (gfr rfl (gfd rfl (gfk rfl rfl gf0))))) ?_
    refine g_goto C 7 dX6_hymns_63 rfl ?_
    exact g_sub [1, 2, 0] rfl (hk7 a0 a1 (a2 + (1 : Int32)) S3 hF)
  · refine g_iconst (v := (1 : Int32)) C dX6_hymns_49 rfl ?_
    refine g_iload_n C 2 dX6_hymns_50 rfl ?_
    refine g_ishl C dX6_hymns_51 ?_
    refine g_goto C 56 dX6_hymns_52 rfl ?_
    refine g_ior C dX6_hymns_56 ?_
    refine g_put C dX6_hymns_57 fd_54 (Or.inl q2066) (Or.inl rfl) pf_0 rfl rfl hF (fun S4 hF => ?_)
    refine g_iinc (v := (1 : Int32)) C 2 dX6_hymns_60 rfl rfl (by decide) (gcons rfl (gfk rfl rfl (gfr rfl (gfd rfl (gfk rfl rfl gf0))))) ?_
    refine g_goto C 7 dX6_hymns_63 rfl ?_
    exact g_sub [1, 2, 0] rfl (hk7 a0 a1 (a2 + (1 : Int32)) S4 hF)
theorem wfX6_hymns_l7 {r : Unit} {S1 : gS} (C : gCx p l R s m args meth c D K RX6 cX6_hymns 4 (Option.none : Option Jvm.ClassFile.FieldType) [] "hymns" u0) (hRf : R.frames = 8) (hRl : R.locals = 262) : ∀ (n : Nat) (a0 : Option Nat) (a1 : Option Nat) (a2 : Int32) (S : gS), fX6_hymns_l7 n a0 a1 a2 S = some (r, S1) → gW p l e R s m args below meth c D K 4 u0 (gEnd below args s D K u0 (.inl none) S1) S 7 [(0, va_rf a0), (1, va_rf a1), (2, .int a2)] [] := by
  intro n
  induction n with
  | zero => intro a0 a1 a2 S hF; cases hF
  | succ n hih =>
    intro a0 a1 a2 S hF
    have hF : fX6_hymns_i7 (fX6_hymns_l7 n) a0 a1 a2 S = some (r, S1) := hF
    revert hF hih
    generalize fX6_hymns_l7 n = ih
    intro hih hF
    unfold fX6_hymns_i7 at hF
    refine g_iload_n C 2 dX6_hymns_7 rfl ?_
    refine g_aload_n C 0 dX6_hymns_8 rfl ?_
    refine g_getR C dX6_hymns_9 fd_15 (Or.inl q2040) (Or.inl rfl) hF (fun x1 hF => ?_)
    refine g_iconst (v := (1 : Int32)) C dX6_hymns_12 rfl ?_
    refine g_iald C dX6_hymns_13 hF (fun x2 hF => ?_)
    refine g_icmp_ge C 66 dX6_hymns_14 rfl hF (fun c hF => ?_) (fun c hF => ?_)
    · cases hF
      exact g_vret C dX6_hymns_66 rfl rfl
    · refine g_aload_n C 0 dX6_hymns_17 rfl ?_
      refine g_aload_n C 1 dX6_hymns_18 rfl ?_
      refine g_iload_n C 2 dX6_hymns_19 rfl ?_
      obtain ⟨x3, S4, h, hF⟩ := gB_some hF
      obtain ⟨hi, h⟩ := gV_some h
      refine g_after (g_runV (n := 2) C dX6_hymns_20 rfl hi (mX6_sings C.2.2.2.2.2.2.2.2.2.2.2.1 a0 a1 a2 S _ _ h) (lw_V q2318 q2320 qs71 q124 q2321) (by decide +kernel) ⟨by rw [hRf]; exact Nat.le_of_ble_eq_true rfl, by rw [hRl]; exact Nat.le_of_ble_eq_true rfl⟩ rfl rfl (gle gc_0 (by decide))) ?_
      refine g_istore_n C dX6_hymns_23 (by decide) rfl ?_
      refine g_aload_n C 2 dX6_hymns_24 rfl ?_
      refine g_bipush (v := (55 : Int32)) C dX6_hymns_25 rfl ?_
      refine g_dup2 C dX6_hymns_27 rfl (g_cr _) ?_
      refine g_iald C dX6_hymns_28 hF (fun x5 hF => ?_)
      refine g_iload_n C 0 dX6_hymns_29 rfl ?_
      refine g_if_eq C 37 dX6_hymns_30 rfl hF (fun c hF => ?_) (fun c hF => ?_)
      · refine g_iconst (v := (1 : Int32)) C dX6_hymns_37 rfl ?_
        exact g_sub [1, 2, 3, 0] rfl (wfX6_hymns_j38 C hRf hRl (ih) (hih) a0 a1 a2 x3 (1 : Int32) x5 (55 : Int32) a1 S4 hF)
      · refine g_iconst (v := (0 : Int32)) C dX6_hymns_33 rfl ?_
        refine g_goto C 38 dX6_hymns_34 rfl ?_
        exact g_sub [1, 2, 3, 0] rfl (wfX6_hymns_j38 C hRf hRl (ih) (hih) a0 a1 a2 x3 (0 : Int32) x5 (55 : Int32) a1 S4 hF)
theorem mX6_hymns {l : Launch} {D : gD} {K : gK} (hl : l.stackTraces = false) : ∀ (p0 : Option Nat) (p1 : Option Nat) (S : gS) (r : Unit) (S1 : gS), fX6_hymns p0 p1 S = some (r, S1) → gMet l D K yX6_hymns (ws_ yX6_hymns cX6_hymns 4 (Option.none : Option Jvm.ClassFile.FieldType)) 8 262 [va_rf p0, va_rf p1] S (.inl none) S1 := by
  intro p0 p1 S r S1 hF
  unfold fX6_hymns at hF
  refine gMet.of hl (by decide +kernel) rfl (gle (lgs_r (lgs_r lgs_0)) (by decide)) (fun p e s m below meth c R hRf hRl C _ => ?_)
  generalize hargs : ([va_rf p0, va_rf p1] : List Value).toArray = args at C ⊢
  generalize hu0 : S.2.2.1 = u0 at C ⊢
  rw [show lv_args 0 [va_rf p0, va_rf p1] = [(0, va_rf p0), (1, va_rf p1)] from (lva_r rfl (lva_r rfl lva_0))]
  refine g_aload_n C 0 dX6_hymns_0 rfl ?_
  refine g_iconst (v := (0 : Int32)) C dX6_hymns_1 rfl ?_
  refine g_put C dX6_hymns_2 fd_54 (Or.inl q2066) (Or.inl rfl) pf_0 rfl rfl hF (fun S1 hF => ?_)
  refine g_iconst (v := (0 : Int32)) C dX6_hymns_5 rfl ?_
  refine g_istore_n C dX6_hymns_6 (by decide) (gcons rfl (gfk rfl rfl (gfr rfl gf0))) ?_
  exact g_sub [1, 2, 0] rfl (wfX6_hymns_l7 C hRf hRl gFU p0 p1 (0 : Int32) S1 hF)
/-! VowelChoirModel.rests([I)Z -/
def fX6_rests_j36 (k4 : (Option Nat) → (Option Nat) → (Int32) → (Int32) → gS → Option (Int32 × gS)) (a0 : Option Nat) (a1 : Option Nat) (a3 : Int32) (t0 : Int32) (t1 : Int32) (S : gS) : Option (Int32 × gS) :=
  (oGetR [3] 14 a0 S).bind fun x1 =>
  (oLdR 5 x1 a3 S).bind fun x2 =>
  (oLdI 0 x2 (2 : Int32) S).bind fun x3 =>
  (oLdI 0 a1 ((0 : Int32) + a3) S).bind fun x4 =>
  (oGetR [3] 12 a0 S).bind fun x5 =>
  (oLdI 0 x5 (3 : Int32) S).bind fun x6 =>
  (oStI 0 a1 ((0 : Int32) + a3) (fX6_less x3 (x4 + x6)) S).bind fun S7 =>
  k4 a0 a1 (t1 ||| t0) (a3 + (1 : Int32)) S7
def fX6_rests_i4 (ih : (Option Nat) → (Option Nat) → (Int32) → (Int32) → gS → Option (Int32 × gS)) (a0 : Option Nat) (a1 : Option Nat) (a2 : Int32) (a3 : Int32) (S : gS) : Option (Int32 × gS) :=
  (oGetR [3] 12 a0 S).bind fun x1 =>
  (oLdI 0 x1 (0 : Int32) S).bind fun x2 =>
  (if x2 ≤ a3 then
  (if (a2 = 0 ∨ a2 = 1) then some (a2, S) else none)
  else
  (oLdI 0 a1 ((0 : Int32) + a3) S).bind fun x3 =>
  (oGetR [3] 14 a0 S).bind fun x4 =>
  (oLdR 5 x4 a3 S).bind fun x5 =>
  (oLdI 0 x5 (2 : Int32) S).bind fun x6 =>
  (if x6 ≤ x3 then
  fX6_rests_j36 ih a0 a1 a3 (0 : Int32) a2 S
  else
  fX6_rests_j36 ih a0 a1 a3 (1 : Int32) a2 S))
def fX6_rests_l4 : Nat → (Option Nat) → (Option Nat) → (Int32) → (Int32) → gS → Option (Int32 × gS)
  | 0 => fun _ _ _ _ _ => none
  | n + 1 => fun a0 a1 a2 a3 S => fX6_rests_i4 (fX6_rests_l4 n) a0 a1 a2 a3 S
def fX6_rests (p0 : Option Nat) (p1 : Option Nat) (S : gS) : Option (Int32 × gS) :=
  fX6_rests_l4 gFU p0 p1 (0 : Int32) (0 : Int32) S
theorem wfX6_rests_j36 {r : Int32} {S1 : gS} (C : gCx p l R s m args meth c D K RX6 cX6_rests 4 (Option.some Jvm.ClassFile.FieldType.boolean) [] "rests" u0) (hRf : R.frames = 2) (hRl : R.locals = 121) (k4 : (Option Nat) → (Option Nat) → (Int32) → (Int32) → gS → Option (Int32 × gS)) (hk4 : ∀ (a0 : Option Nat) (a1 : Option Nat) (a2 : Int32) (a3 : Int32) (S : gS), k4 a0 a1 a2 a3 S = some (r, S1) → gW p l e R s m args below meth c D K 4 u0 (gEnd below args s D K u0 (.inl (some (.int r))) S1) S 4 [(0, va_rf a0), (1, va_rf a1), (2, .int a2), (3, .int a3)] []) : ∀ (a0 : Option Nat) (a1 : Option Nat) (a3 : Int32) (t0 : Int32) (t1 : Int32) (S : gS), fX6_rests_j36 k4 a0 a1 a3 t0 t1 S = some (r, S1) → gW p l e R s m args below meth c D K 4 u0 (gEnd below args s D K u0 (.inl (some (.int r))) S1) S 36 [(0, va_rf a0), (1, va_rf a1), (3, .int a3)] [.int t0, .int t1] := by
  intro a0 a1 a3 t0 t1 S hF
  unfold fX6_rests_j36 at hF
  refine g_ior C dX6_rests_36 ?_
  refine g_istore_n C dX6_rests_37 (by decide) (gcons rfl (gfk rfl rfl (gfr rfl (gfk rfl rfl gf0)))) ?_
  refine g_aload_n C 2 dX6_rests_38 rfl ?_
  refine g_iconst (v := (0 : Int32)) C dX6_rests_39 rfl ?_
  refine g_iload_n C 3 dX6_rests_40 rfl ?_
  refine g_iadd C dX6_rests_41 ?_
  refine g_aload_n C 1 dX6_rests_42 rfl ?_
  refine g_getR C dX6_rests_43 fd_16 (Or.inl q2042) (Or.inl rfl) hF (fun x1 hF => ?_)
  refine g_iload_n C 3 dX6_rests_46 rfl ?_
  refine g_aald C (kd := 5) rfl dX6_rests_47 hF (fun x2 hF => ?_)
  refine g_iconst (v := (2 : Int32)) C dX6_rests_48 rfl ?_
  refine g_iald C dX6_rests_49 hF (fun x3 hF => ?_)
  refine g_aload_n C 2 dX6_rests_50 rfl ?_
  refine g_iconst (v := (0 : Int32)) C dX6_rests_51 rfl ?_
  refine g_iload_n C 3 dX6_rests_52 rfl ?_
  refine g_iadd C dX6_rests_53 ?_
  refine g_iald C dX6_rests_54 hF (fun x4 hF => ?_)
  refine g_aload_n C 1 dX6_rests_55 rfl ?_
  refine g_getR C dX6_rests_56 fd_15 (Or.inl q2040) (Or.inl rfl) hF (fun x5 hF => ?_)
  refine g_iconst (v := (3 : Int32)) C dX6_rests_59 rfl ?_
  refine g_iald C dX6_rests_60 hF (fun x6 hF => ?_)
  refine g_iadd C dX6_rests_61 ?_
  refine g_after (g_runS (n := 2) C dX6_rests_62 (mX6_less C.2.2.2.2.2.2.2.2.2.2.2.1 x3 (x4 + x6) S _ rfl) (lw_S q2341 q2342 q124 q2343) (by decide +kernel) ⟨by rw [hRf]; exact Nat.le_of_ble_eq_true rfl, by rw [hRl]; exact Nat.le_of_ble_eq_true rfl⟩ rfl rfl (gle (gc_i (gc_r gc_0)) (by decide))) ?_
  refine g_iast C dX6_rests_65 hF (fun S7 hF => ?_)
  refine g_iinc (v := (1 : Int32)) C 3 dX6_rests_66 rfl rfl (by decide) rfl ?_
  refine g_goto C 4 dX6_rests_69 rfl ?_
  exact g_sub [2, 3, 1, 0] rfl (hk4 a0 a1 (t1 ||| t0) (a3 + (1 : Int32)) S7 hF)
theorem wfX6_rests_l4 {r : Int32} {S1 : gS} (C : gCx p l R s m args meth c D K RX6 cX6_rests 4 (Option.some Jvm.ClassFile.FieldType.boolean) [] "rests" u0) (hRf : R.frames = 2) (hRl : R.locals = 121) : ∀ (n : Nat) (a0 : Option Nat) (a1 : Option Nat) (a2 : Int32) (a3 : Int32) (S : gS), fX6_rests_l4 n a0 a1 a2 a3 S = some (r, S1) → gW p l e R s m args below meth c D K 4 u0 (gEnd below args s D K u0 (.inl (some (.int r))) S1) S 4 [(0, va_rf a0), (1, va_rf a1), (2, .int a2), (3, .int a3)] [] := by
  intro n
  induction n with
  | zero => intro a0 a1 a2 a3 S hF; cases hF
  | succ n hih =>
    intro a0 a1 a2 a3 S hF
    have hF : fX6_rests_i4 (fX6_rests_l4 n) a0 a1 a2 a3 S = some (r, S1) := hF
    revert hF hih
    generalize fX6_rests_l4 n = ih
    intro hih hF
    unfold fX6_rests_i4 at hF
    refine g_iload_n C 3 dX6_rests_4 rfl ?_
    refine g_aload_n C 0 dX6_rests_5 rfl ?_
    refine g_getR C dX6_rests_6 fd_15 (Or.inl q2040) (Or.inl rfl) hF (fun x1 hF => ?_)
    refine g_iconst (v := (0 : Int32)) C dX6_rests_9 rfl ?_
    refine g_iald C dX6_rests_10 hF (fun x2 hF => ?_)
    refine g_icmp_ge C 72 dX6_rests_11 rfl hF (fun c hF => ?_) (fun c hF => ?_)
    · refine g_iload_n C 2 dX6_rests_72 rfl ?_
      obtain ⟨hz, hF⟩ := gIf hF
      cases hF
      exact g_zret (ty := .boolean) C (nrZ hz) dX6_rests_73 rfl rfl
    · refine g_iload_n C 2 dX6_rests_14 rfl ?_
      refine g_aload_n C 1 dX6_rests_15 rfl ?_
      refine g_iconst (v := (0 : Int32)) C dX6_rests_16 rfl ?_
      refine g_iload_n C 3 dX6_rests_17 rfl ?_
      refine g_iadd C dX6_rests_18 ?_
      refine g_iald C dX6_rests_19 hF (fun x3 hF => ?_)
      refine g_aload_n C 0 dX6_rests_20 rfl ?_
      refine g_getR C dX6_rests_21 fd_16 (Or.inl q2042) (Or.inl rfl) hF (fun x4 hF => ?_)
      refine g_iload_n C 3 dX6_rests_24 rfl ?_
      refine g_aald C (kd := 5) rfl dX6_rests_25 hF (fun x5 hF => ?_)
      refine g_iconst (v := (2 : Int32)) C dX6_rests_26 rfl ?_
      refine g_iald C dX6_rests_27 hF (fun x6 hF => ?_)
      refine g_icmp_ge C 35 dX6_rests_28 rfl hF (fun c hF => ?_) (fun c hF => ?_)
      · refine g_iconst (v := (0 : Int32)) C dX6_rests_35 rfl ?_
        exact g_sub [0, 1, 3] rfl (wfX6_rests_j36 C hRf hRl (ih) (hih) a0 a1 a3 (0 : Int32) a2 S hF)
      · refine g_iconst (v := (1 : Int32)) C dX6_rests_31 rfl ?_
        refine g_goto C 36 dX6_rests_32 rfl ?_
        exact g_sub [0, 1, 3] rfl (wfX6_rests_j36 C hRf hRl (ih) (hih) a0 a1 a3 (1 : Int32) a2 S hF)
theorem mX6_rests {l : Launch} {D : gD} {K : gK} (hl : l.stackTraces = false) : ∀ (p0 : Option Nat) (p1 : Option Nat) (S : gS) (r : Int32) (S1 : gS), fX6_rests p0 p1 S = some (r, S1) → gMet l D K yX6_rests (ws_ yX6_rests cX6_rests 4 (Option.some Jvm.ClassFile.FieldType.boolean)) 2 121 [va_rf p0, va_rf p1] S (.inl (some (.int r))) S1 := by
  intro p0 p1 S r S1 hF
  unfold fX6_rests at hF
  refine gMet.of hl (by decide +kernel) rfl (gle (lgs_r (lgs_r lgs_0)) (by decide)) (fun p e s m below meth c R hRf hRl C _ => ?_)
  generalize hargs : ([va_rf p0, va_rf p1] : List Value).toArray = args at C ⊢
  generalize hu0 : S.2.2.1 = u0 at C ⊢
  rw [show lv_args 0 [va_rf p0, va_rf p1] = [(0, va_rf p0), (1, va_rf p1)] from (lva_r rfl (lva_r rfl lva_0))]
  refine g_iconst (v := (0 : Int32)) C dX6_rests_0 rfl ?_
  refine g_istore_n C dX6_rests_1 (by decide) (gcons rfl (gfk rfl rfl (gfr rfl gf0))) ?_
  refine g_iconst (v := (0 : Int32)) C dX6_rests_2 rfl ?_
  refine g_istore_n C dX6_rests_3 (by decide) rfl ?_
  exact g_sub [2, 3, 1, 0] rfl (wfX6_rests_l4 C hRf hRl gFU p0 p1 (0 : Int32) (0 : Int32) S hF)
/-! VowelChoirModel.becomes([III)Z -/
def fX6_becomes (p0 : Option Nat) (p1 : Int32) (p2 : Int32) (S : gS) : Option (Int32 × gS) :=
  (oLdI 0 p0 p1 S).bind fun x1 =>
  (if x1 = p2 then
  some ((0 : Int32), S)
  else
  (oStI 0 p0 p1 p2 S).bind fun S2 =>
  some ((1 : Int32), S2))
theorem mX6_becomes {l : Launch} {D : gD} {K : gK} (hl : l.stackTraces = false) : ∀ (p0 : Option Nat) (p1 : Int32) (p2 : Int32) (S : gS) (r : Int32) (S1 : gS), fX6_becomes p0 p1 p2 S = some (r, S1) → gMet l D K yX6_becomes (ws_ yX6_becomes cX6_becomes 3 (Option.some Jvm.ClassFile.FieldType.boolean)) 1 100 [va_rf p0, .int p1, .int p2] S (.inl (some (.int r))) S1 := by
  intro p0 p1 p2 S r S1 hF
  unfold fX6_becomes at hF
  refine gMet.of hl (by decide +kernel) rfl (gle (lgs_r (lgs_i (lgs_i lgs_0))) (by decide)) (fun p e s m below meth c R hRf hRl C _ => ?_)
  generalize hargs : ([va_rf p0, .int p1, .int p2] : List Value).toArray = args at C ⊢
  generalize hu0 : S.2.2.1 = u0 at C ⊢
  rw [show lv_args 0 [va_rf p0, .int p1, .int p2] = [(0, va_rf p0), (1, .int p1), (2, .int p2)] from (lva_r rfl (lva_i rfl (lva_i rfl lva_0)))]
  refine g_aload_n C 0 dX6_becomes_0 rfl ?_
  refine g_iload_n C 1 dX6_becomes_1 rfl ?_
  refine g_iald C dX6_becomes_2 hF (fun x1 hF => ?_)
  refine g_iload_n C 2 dX6_becomes_3 rfl ?_
  refine g_icmp_ne C 9 dX6_becomes_4 rfl hF (fun c hF => ?_) (fun c hF => ?_)
  · refine g_aload_n C 0 dX6_becomes_9 rfl ?_
    refine g_iload_n C 1 dX6_becomes_10 rfl ?_
    refine g_iload_n C 2 dX6_becomes_11 rfl ?_
    refine g_iast C dX6_becomes_12 hF (fun S2 hF => ?_)
    refine g_iconst (v := (1 : Int32)) C dX6_becomes_13 rfl ?_
    cases hF
    exact g_zret (ty := .boolean) C (rfl) dX6_becomes_14 rfl rfl
  · refine g_iconst (v := (0 : Int32)) C dX6_becomes_7 rfl ?_
    cases hF
    exact g_zret (ty := .boolean) C (rfl) dX6_becomes_8 rfl rfl
/-! VowelChoirModel.wordsOf(I)I -/
def fX6_wordsOf_i13 (ih : (Option Nat) → (Int32) → (Int32) → (Int32) → gS → Option Int32) (a0 : Option Nat) (a1 : Int32) (a2 : Int32) (a3 : Int32) (S : gS) : Option Int32 :=
  (oGetR [3] 12 a0 S).bind fun x1 =>
  (oLdI 0 x1 (2 : Int32) S).bind fun x2 =>
  (if x2 ≤ a3 then
  some a2
  else
  (oGetR [3] 18 a0 S).bind fun x3 =>
  (oLdR 5 x3 a3 S).bind fun x4 =>
  (oLdI 0 x4 (0 : Int32) S).bind fun x5 =>
  (if x5 = a1 then
  (oGetR [3] 18 a0 S).bind fun x6 =>
  (oLdR 5 x6 a3 S).bind fun x7 =>
  (oLdI 0 x7 (1 : Int32) S).bind fun x8 =>
  ih a0 a1 (a2 ||| ((1 : Int32) <<< (x8 &&& 31))) (a3 + (1 : Int32)) S
  else
  ih a0 a1 (a2 ||| (0 : Int32)) (a3 + (1 : Int32)) S))
def fX6_wordsOf_l13 : Nat → (Option Nat) → (Int32) → (Int32) → (Int32) → gS → Option Int32
  | 0 => fun _ _ _ _ _ => none
  | n + 1 => fun a0 a1 a2 a3 S => fX6_wordsOf_i13 (fX6_wordsOf_l13 n) a0 a1 a2 a3 S
def fX6_wordsOf (p0 : Option Nat) (p1 : Int32) (S : gS) : Option Int32 :=
  (oGetR [3] 16 p0 S).bind fun x1 =>
  (oLdR 5 x1 p1 S).bind fun x2 =>
  (oLdI 0 x2 (0 : Int32) S).bind fun x3 =>
  fX6_wordsOf_l13 gFU p0 p1 ((1 : Int32) <<< (x3 &&& 31)) (0 : Int32) S
theorem wfX6_wordsOf_l13 {r : Int32} (C : gCx p l R s m args meth c D K RX6 cX6_wordsOf 4 (Option.some Jvm.ClassFile.FieldType.int) [] "wordsOf" u0) (hRf : R.frames = 1) (hRl : R.locals = 100) : ∀ (n : Nat) (a0 : Option Nat) (a1 : Int32) (a2 : Int32) (a3 : Int32) (S : gS), fX6_wordsOf_l13 n a0 a1 a2 a3 S = some r → gW p l e R s m args below meth c D K 4 u0 (gEnd below args s D K u0 (.inl (some (.int r))) S) S 13 [(0, va_rf a0), (1, .int a1), (2, .int a2), (3, .int a3)] [] := by
  intro n
  induction n with
  | zero => intro a0 a1 a2 a3 S hF; cases hF
  | succ n hih =>
    intro a0 a1 a2 a3 S hF
    have hF : fX6_wordsOf_i13 (fX6_wordsOf_l13 n) a0 a1 a2 a3 S = some r := hF
    revert hF hih
    generalize fX6_wordsOf_l13 n = ih
    intro hih hF
    unfold fX6_wordsOf_i13 at hF
    refine g_iload_n C 3 dX6_wordsOf_13 rfl ?_
    refine g_aload_n C 0 dX6_wordsOf_14 rfl ?_
    refine g_getR C dX6_wordsOf_15 fd_15 (Or.inl q2040) (Or.inl rfl) hF (fun x1 hF => ?_)
    refine g_iconst (v := (2 : Int32)) C dX6_wordsOf_18 rfl ?_
    refine g_iald C dX6_wordsOf_19 hF (fun x2 hF => ?_)
    refine g_icmp_ge C 58 dX6_wordsOf_20 rfl hF (fun c hF => ?_) (fun c hF => ?_)
    · refine g_iload_n C 2 dX6_wordsOf_58 rfl ?_
      cases hF
      exact g_iret C dX6_wordsOf_59 rfl rfl
    · refine g_iload_n C 2 dX6_wordsOf_23 rfl ?_
      refine g_aload_n C 0 dX6_wordsOf_24 rfl ?_
      refine g_getR C dX6_wordsOf_25 fd_21 (Or.inl q2046) (Or.inl rfl) hF (fun x3 hF => ?_)
      refine g_iload_n C 3 dX6_wordsOf_28 rfl ?_
      refine g_aald C (kd := 5) rfl dX6_wordsOf_29 hF (fun x4 hF => ?_)
      refine g_iconst (v := (0 : Int32)) C dX6_wordsOf_30 rfl ?_
      refine g_iald C dX6_wordsOf_31 hF (fun x5 hF => ?_)
      refine g_iload_n C 1 dX6_wordsOf_32 rfl ?_
      refine g_icmp_ne C 49 dX6_wordsOf_33 rfl hF (fun c hF => ?_) (fun c hF => ?_)
      · refine g_iconst (v := (0 : Int32)) C dX6_wordsOf_49 rfl ?_
        refine g_ior C dX6_wordsOf_50 ?_
        refine g_istore_n C dX6_wordsOf_51 (by decide) rfl ?_
        refine g_iinc (v := (1 : Int32)) C 3 dX6_wordsOf_52 rfl rfl (by decide) rfl ?_
        refine g_goto C 13 dX6_wordsOf_55 rfl ?_
        exact g_sub [2, 3, 1, 0] rfl (hih a0 a1 (a2 ||| (0 : Int32)) (a3 + (1 : Int32)) S hF)
      · refine g_iconst (v := (1 : Int32)) C dX6_wordsOf_36 rfl ?_
        refine g_aload_n C 0 dX6_wordsOf_37 rfl ?_
        refine g_getR C dX6_wordsOf_38 fd_21 (Or.inl q2046) (Or.inl rfl) hF (fun x6 hF => ?_)
        refine g_iload_n C 3 dX6_wordsOf_41 rfl ?_
        refine g_aald C (kd := 5) rfl dX6_wordsOf_42 hF (fun x7 hF => ?_)
        refine g_iconst (v := (1 : Int32)) C dX6_wordsOf_43 rfl ?_
        refine g_iald C dX6_wordsOf_44 hF (fun x8 hF => ?_)
        refine g_ishl C dX6_wordsOf_45 ?_
        refine g_goto C 50 dX6_wordsOf_46 rfl ?_
        refine g_ior C dX6_wordsOf_50 ?_
        refine g_istore_n C dX6_wordsOf_51 (by decide) rfl ?_
        refine g_iinc (v := (1 : Int32)) C 3 dX6_wordsOf_52 rfl rfl (by decide) rfl ?_
        refine g_goto C 13 dX6_wordsOf_55 rfl ?_
        exact g_sub [2, 3, 1, 0] rfl (hih a0 a1 (a2 ||| ((1 : Int32) <<< (x8 &&& 31))) (a3 + (1 : Int32)) S hF)
theorem mX6_wordsOf {l : Launch} {D : gD} {K : gK} (hl : l.stackTraces = false) : ∀ (p0 : Option Nat) (p1 : Int32) (S : gS) (r : Int32), fX6_wordsOf p0 p1 S = some r → gMet l D K yX6_wordsOf (ws_ yX6_wordsOf cX6_wordsOf 4 (Option.some Jvm.ClassFile.FieldType.int)) 1 100 [va_rf p0, .int p1] S (.inl (some (.int r))) S := by
  intro p0 p1 S r hF
  unfold fX6_wordsOf at hF
  refine gMet.of hl (by decide +kernel) rfl (gle (lgs_r (lgs_i lgs_0)) (by decide)) (fun p e s m below meth c R hRf hRl C _ => ?_)
  generalize hargs : ([va_rf p0, .int p1] : List Value).toArray = args at C ⊢
  generalize hu0 : S.2.2.1 = u0 at C ⊢
  rw [show lv_args 0 [va_rf p0, .int p1] = [(0, va_rf p0), (1, .int p1)] from (lva_r rfl (lva_i rfl lva_0))]
  refine g_iconst (v := (1 : Int32)) C dX6_wordsOf_0 rfl ?_
  refine g_aload_n C 0 dX6_wordsOf_1 rfl ?_
  refine g_getR C dX6_wordsOf_2 fd_19 (Or.inl q2044) (Or.inl rfl) hF (fun x1 hF => ?_)
  refine g_iload_n C 1 dX6_wordsOf_5 rfl ?_
  refine g_aald C (kd := 5) rfl dX6_wordsOf_6 hF (fun x2 hF => ?_)
  refine g_iconst (v := (0 : Int32)) C dX6_wordsOf_7 rfl ?_
  refine g_iald C dX6_wordsOf_8 hF (fun x3 hF => ?_)
  refine g_ishl C dX6_wordsOf_9 ?_
  refine g_istore_n C dX6_wordsOf_10 (by decide) rfl ?_
  refine g_iconst (v := (0 : Int32)) C dX6_wordsOf_11 rfl ?_
  refine g_istore_n C dX6_wordsOf_12 (by decide) rfl ?_
  exact g_sub [2, 3, 1, 0] rfl (wfX6_wordsOf_l13 C hRf hRl gFU p0 p1 ((1 : Int32) <<< (x3 &&& 31)) (0 : Int32) S hF)
/-! VowelChoirModel.dayEnds([I)V -/
def fX6_dayEnds_j61 (k7 : (Option Nat) → (Option Nat) → (Int32) → gS → Option (Unit × gS)) (a0 : Option Nat) (a1 : Option Nat) (a2 : Int32) (t0 : Int32) (t1 : Int32) (t2 : Option Nat) (S : gS) : Option (Unit × gS) :=
  (oStI 0 t2 t1 t0 S).bind fun S1 =>
  (oStI 0 a1 ((28 : Int32) + a2) (0 : Int32) S1).bind fun S2 =>
  k7 a0 a1 (a2 + (1 : Int32)) S2
def fX6_dayEnds_i7 (ih : (Option Nat) → (Option Nat) → (Int32) → gS → Option (Unit × gS)) (a0 : Option Nat) (a1 : Option Nat) (a2 : Int32) (S : gS) : Option (Unit × gS) :=
  (oGetR [3] 12 a0 S).bind fun x1 =>
  (oLdI 0 x1 (0 : Int32) S).bind fun x2 =>
  (if x2 ≤ a2 then
  (oLdI 0 a1 (56 : Int32) S).bind fun x3 =>
  (oStI 0 a1 (56 : Int32) (x3 + (1 : Int32)) S).bind fun S4 =>
  some ((), S4)
  else
  (oLdI 0 a1 ((28 : Int32) + a2) S).bind fun x5 =>
  (if x5 = 0 then
  (oLdI 0 a1 ((21 : Int32) + a2) S).bind fun x10 =>
  fX6_dayEnds_j61 ih a0 a1 a2 x10 ((21 : Int32) + a2) a1 S
  else
  (oLdI 0 a1 ((21 : Int32) + a2) S).bind fun x6 =>
  (oGetR [3] 14 a0 S).bind fun x7 =>
  (oLdR 5 x7 a2 S).bind fun x8 =>
  (oLdI 0 x8 (1 : Int32) S).bind fun x9 =>
  fX6_dayEnds_j61 ih a0 a1 a2 (fX6_less (9999 : Int32) (x6 + x9)) ((21 : Int32) + a2) a1 S))
def fX6_dayEnds_l7 : Nat → (Option Nat) → (Option Nat) → (Int32) → gS → Option (Unit × gS)
  | 0 => fun _ _ _ _ => none
  | n + 1 => fun a0 a1 a2 S => fX6_dayEnds_i7 (fX6_dayEnds_l7 n) a0 a1 a2 S
def fX6_dayEnds (p0 : Option Nat) (p1 : Option Nat) (S : gS) : Option (Unit × gS) :=
  gB (gV [3] p0 S (fX6_breathes p0 p1 S)) fun x1 S2 =>
  fX6_dayEnds_l7 gFU p0 p1 (0 : Int32) S2
theorem wfX6_dayEnds_j61 {r : Unit} {S1 : gS} (C : gCx p l R s m args meth c D K RX6 cX6_dayEnds 3 (Option.none : Option Jvm.ClassFile.FieldType) [] "dayEnds" u0) (hRf : R.frames = 2) (hRl : R.locals = 122) (k7 : (Option Nat) → (Option Nat) → (Int32) → gS → Option (Unit × gS)) (hk7 : ∀ (a0 : Option Nat) (a1 : Option Nat) (a2 : Int32) (S : gS), k7 a0 a1 a2 S = some (r, S1) → gW p l e R s m args below meth c D K 3 u0 (gEnd below args s D K u0 (.inl none) S1) S 7 [(0, va_rf a0), (1, va_rf a1), (2, .int a2)] []) : ∀ (a0 : Option Nat) (a1 : Option Nat) (a2 : Int32) (t0 : Int32) (t1 : Int32) (t2 : Option Nat) (S : gS), fX6_dayEnds_j61 k7 a0 a1 a2 t0 t1 t2 S = some (r, S1) → gW p l e R s m args below meth c D K 3 u0 (gEnd below args s D K u0 (.inl none) S1) S 61 [(0, va_rf a0), (1, va_rf a1), (2, .int a2)] [.int t0, .int t1, va_rf t2] := by
  intro a0 a1 a2 t0 t1 t2 S hF
  unfold fX6_dayEnds_j61 at hF
  refine g_iast C dX6_dayEnds_61 hF (fun S1 hF => ?_)
  refine g_aload_n C 1 dX6_dayEnds_62 rfl ?_
  refine g_bipush (v := (28 : Int32)) C dX6_dayEnds_63 rfl ?_
  refine g_iload_n C 2 dX6_dayEnds_65 rfl ?_
  refine g_iadd C dX6_dayEnds_66 ?_
  refine g_iconst (v := (0 : Int32)) C dX6_dayEnds_67 rfl ?_
  refine g_iast C dX6_dayEnds_68 hF (fun S2 hF => ?_)
  refine g_iinc (v := (1 : Int32)) C 2 dX6_dayEnds_69 rfl rfl (by decide) (gcons rfl (gfk rfl rfl (gfr rfl (gfd rfl gf0)))) ?_
  refine g_goto C 7 dX6_dayEnds_72 rfl ?_
  exact g_sub [1, 2, 0] rfl (hk7 a0 a1 (a2 + (1 : Int32)) S2 hF)
theorem wfX6_dayEnds_l7 {r : Unit} {S1 : gS} (C : gCx p l R s m args meth c D K RX6 cX6_dayEnds 3 (Option.none : Option Jvm.ClassFile.FieldType) [] "dayEnds" u0) (hRf : R.frames = 2) (hRl : R.locals = 122) : ∀ (n : Nat) (a0 : Option Nat) (a1 : Option Nat) (a2 : Int32) (S : gS), fX6_dayEnds_l7 n a0 a1 a2 S = some (r, S1) → gW p l e R s m args below meth c D K 3 u0 (gEnd below args s D K u0 (.inl none) S1) S 7 [(0, va_rf a0), (1, va_rf a1), (2, .int a2)] [] := by
  intro n
  induction n with
  | zero => intro a0 a1 a2 S hF; cases hF
  | succ n hih =>
    intro a0 a1 a2 S hF
    have hF : fX6_dayEnds_i7 (fX6_dayEnds_l7 n) a0 a1 a2 S = some (r, S1) := hF
    revert hF hih
    generalize fX6_dayEnds_l7 n = ih
    intro hih hF
    unfold fX6_dayEnds_i7 at hF
    refine g_iload_n C 2 dX6_dayEnds_7 rfl ?_
    refine g_aload_n C 0 dX6_dayEnds_8 rfl ?_
    refine g_getR C dX6_dayEnds_9 fd_15 (Or.inl q2040) (Or.inl rfl) hF (fun x1 hF => ?_)
    refine g_iconst (v := (0 : Int32)) C dX6_dayEnds_12 rfl ?_
    refine g_iald C dX6_dayEnds_13 hF (fun x2 hF => ?_)
    refine g_icmp_ge C 75 dX6_dayEnds_14 rfl hF (fun c hF => ?_) (fun c hF => ?_)
    · refine g_aload_n C 1 dX6_dayEnds_75 rfl ?_
      refine g_bipush (v := (56 : Int32)) C dX6_dayEnds_76 rfl ?_
      refine g_dup2 C dX6_dayEnds_78 rfl (g_cr _) ?_
      refine g_iald C dX6_dayEnds_79 hF (fun x3 hF => ?_)
      refine g_iconst (v := (1 : Int32)) C dX6_dayEnds_80 rfl ?_
      refine g_iadd C dX6_dayEnds_81 ?_
      refine g_iast C dX6_dayEnds_82 hF (fun S4 hF => ?_)
      cases hF
      exact g_vret C dX6_dayEnds_83 rfl rfl
    · refine g_aload_n C 1 dX6_dayEnds_17 rfl ?_
      refine g_bipush (v := (21 : Int32)) C dX6_dayEnds_18 rfl ?_
      refine g_iload_n C 2 dX6_dayEnds_20 rfl ?_
      refine g_iadd C dX6_dayEnds_21 ?_
      refine g_aload_n C 1 dX6_dayEnds_22 rfl ?_
      refine g_bipush (v := (28 : Int32)) C dX6_dayEnds_23 rfl ?_
      refine g_iload_n C 2 dX6_dayEnds_25 rfl ?_
      refine g_iadd C dX6_dayEnds_26 ?_
      refine g_iald C dX6_dayEnds_27 hF (fun x5 hF => ?_)
      refine g_if_ne C 40 dX6_dayEnds_28 rfl hF (fun c hF => ?_) (fun c hF => ?_)
      · refine g_sipush (v := (9999 : Int32)) C dX6_dayEnds_40 rfl ?_
        refine g_aload_n C 1 dX6_dayEnds_43 rfl ?_
        refine g_bipush (v := (21 : Int32)) C dX6_dayEnds_44 rfl ?_
        refine g_iload_n C 2 dX6_dayEnds_46 rfl ?_
        refine g_iadd C dX6_dayEnds_47 ?_
        refine g_iald C dX6_dayEnds_48 hF (fun x6 hF => ?_)
        refine g_aload_n C 0 dX6_dayEnds_49 rfl ?_
        refine g_getR C dX6_dayEnds_50 fd_16 (Or.inl q2042) (Or.inl rfl) hF (fun x7 hF => ?_)
        refine g_iload_n C 2 dX6_dayEnds_53 rfl ?_
        refine g_aald C (kd := 5) rfl dX6_dayEnds_54 hF (fun x8 hF => ?_)
        refine g_iconst (v := (1 : Int32)) C dX6_dayEnds_55 rfl ?_
        refine g_iald C dX6_dayEnds_56 hF (fun x9 hF => ?_)
        refine g_iadd C dX6_dayEnds_57 ?_
        refine g_after (g_runS (n := 2) C dX6_dayEnds_58 (mX6_less C.2.2.2.2.2.2.2.2.2.2.2.1 (9999 : Int32) (x6 + x9) S _ rfl) (lw_S q2341 q2342 q124 q2343) (by decide +kernel) ⟨by rw [hRf]; exact Nat.le_of_ble_eq_true rfl, by rw [hRl]; exact Nat.le_of_ble_eq_true rfl⟩ rfl rfl (gle (gc_i (gc_r gc_0)) (by decide))) ?_
        exact g_sub [0, 1, 2] rfl (wfX6_dayEnds_j61 C hRf hRl (ih) (hih) a0 a1 a2 (fX6_less (9999 : Int32) (x6 + x9)) ((21 : Int32) + a2) a1 S hF)
      · refine g_aload_n C 1 dX6_dayEnds_31 rfl ?_
        refine g_bipush (v := (21 : Int32)) C dX6_dayEnds_32 rfl ?_
        refine g_iload_n C 2 dX6_dayEnds_34 rfl ?_
        refine g_iadd C dX6_dayEnds_35 ?_
        refine g_iald C dX6_dayEnds_36 hF (fun x10 hF => ?_)
        refine g_goto C 61 dX6_dayEnds_37 rfl ?_
        exact g_sub [0, 1, 2] rfl (wfX6_dayEnds_j61 C hRf hRl (ih) (hih) a0 a1 a2 x10 ((21 : Int32) + a2) a1 S hF)
theorem mX6_dayEnds {l : Launch} {D : gD} {K : gK} (hl : l.stackTraces = false) : ∀ (p0 : Option Nat) (p1 : Option Nat) (S : gS) (r : Unit) (S1 : gS), fX6_dayEnds p0 p1 S = some (r, S1) → gMet l D K yX6_dayEnds (ws_ yX6_dayEnds cX6_dayEnds 3 (Option.none : Option Jvm.ClassFile.FieldType)) 2 122 [va_rf p0, va_rf p1] S (.inl none) S1 := by
  intro p0 p1 S r S1 hF
  unfold fX6_dayEnds at hF
  refine gMet.of hl (by decide +kernel) rfl (gle (lgs_r (lgs_r lgs_0)) (by decide)) (fun p e s m below meth c R hRf hRl C _ => ?_)
  generalize hargs : ([va_rf p0, va_rf p1] : List Value).toArray = args at C ⊢
  generalize hu0 : S.2.2.1 = u0 at C ⊢
  rw [show lv_args 0 [va_rf p0, va_rf p1] = [(0, va_rf p0), (1, va_rf p1)] from (lva_r rfl (lva_r rfl lva_0))]
  refine g_aload_n C 0 dX6_dayEnds_0 rfl ?_
  refine g_aload_n C 1 dX6_dayEnds_1 rfl ?_
  obtain ⟨x1, S2, h, hF⟩ := gB_some hF
  obtain ⟨hi, h⟩ := gV_some h
  refine g_after (g_runV (n := 1) C dX6_dayEnds_2 rfl hi (mX6_breathes C.2.2.2.2.2.2.2.2.2.2.2.1 p0 p1 S _ _ h) (lw_V q2024 q2026 qs45 q124 q2027) (by decide +kernel) ⟨by rw [hRf]; exact Nat.le_of_ble_eq_true rfl, by rw [hRl]; exact Nat.le_of_ble_eq_true rfl⟩ rfl rfl (gle gc_0 (by decide))) ?_
  refine g_iconst (v := (0 : Int32)) C dX6_dayEnds_5 rfl ?_
  refine g_istore_n C dX6_dayEnds_6 (by decide) (gcons rfl (gfk rfl rfl (gfr rfl gf0))) ?_
  exact g_sub [1, 2, 0] rfl (wfX6_dayEnds_l7 C hRf hRl gFU p0 p1 (0 : Int32) S2 hF)
/-! VowelChoirModel.does([I[I)Z -/
def fX6_does (p0 : Option Nat) (p1 : Option Nat) (p2 : Option Nat) (S : gS) : Option (Int32 × gS) :=
  (oLdI 0 p2 (0 : Int32) S).bind fun x1 =>
  (if x1 = (0 : Int32) then
  (oLdI 0 p2 (1 : Int32) S).bind fun x2 =>
  gB (gV [3] p0 S (fX6_sings p0 p1 x2 S)) fun x3 S4 =>
  (if (x3 = 0 ∨ x3 = 1) then some (x3, S4) else none)
  else
  if x1 = (1 : Int32) then
  gB (gV [3] p0 S (fX6_hymns p0 p1 S)) fun x5 S6 =>
  some ((1 : Int32), S6)
  else
  if x1 = (2 : Int32) then
  gB (gV [3] p0 S (fX6_rests p0 p1 S)) fun x7 S8 =>
  (if (x7 = 0 ∨ x7 = 1) then some (x7, S8) else none)
  else
  if x1 = (3 : Int32) then
  (oLdI 0 p2 (1 : Int32) S).bind fun x9 =>
  (oLdI 0 p2 (0 : Int32) S).bind fun x10 =>
  (if x10 = (3 : Int32) then
  gB (fX6_becomes p1 ((7 : Int32) + x9) (1 : Int32) S) fun x13 S14 =>
  (if (x13 = 0 ∨ x13 = 1) then some (x13, S14) else none)
  else
  gB (fX6_becomes p1 ((7 : Int32) + x9) (0 : Int32) S) fun x11 S12 =>
  (if (x11 = 0 ∨ x11 = 1) then some (x11, S12) else none))
  else
  if x1 = (4 : Int32) then
  (oLdI 0 p2 (1 : Int32) S).bind fun x15 =>
  (oLdI 0 p2 (0 : Int32) S).bind fun x16 =>
  (if x16 = (3 : Int32) then
  gB (fX6_becomes p1 ((7 : Int32) + x15) (1 : Int32) S) fun x19 S20 =>
  (if (x19 = 0 ∨ x19 = 1) then some (x19, S20) else none)
  else
  gB (fX6_becomes p1 ((7 : Int32) + x15) (0 : Int32) S) fun x17 S18 =>
  (if (x17 = 0 ∨ x17 = 1) then some (x17, S18) else none))
  else
  if x1 = (5 : Int32) then
  (oLdI 0 p2 (1 : Int32) S).bind fun x21 =>
  (gV [3] p0 S (fX6_wordsOf p0 x21 S)).bind fun x22 =>
  (oLdI 0 p2 (2 : Int32) S).bind fun x23 =>
  (if (fX6_has x22 x23) = 0 then
  some ((0 : Int32), S)
  else
  (oLdI 0 p2 (1 : Int32) S).bind fun x24 =>
  (oLdI 0 p2 (2 : Int32) S).bind fun x25 =>
  gB (fX6_becomes p1 ((35 : Int32) + x24) x25 S) fun x26 S27 =>
  (if x26 = 0 then
  some ((0 : Int32), S27)
  else
  some ((1 : Int32), S27)))
  else
  (oLdI 0 p1 (56 : Int32) S).bind fun x28 =>
  (if x28 < (400 : Int32) then
  gB (gV [3] p0 S (fX6_dayEnds p0 p1 S)) fun x29 S30 =>
  some ((1 : Int32), S30)
  else
  some ((0 : Int32), S)))
theorem mX6_does {l : Launch} {D : gD} {K : gK} (hl : l.stackTraces = false) : ∀ (p0 : Option Nat) (p1 : Option Nat) (p2 : Option Nat) (S : gS) (r : Int32) (S1 : gS), fX6_does p0 p1 p2 S = some (r, S1) → gMet l D K yX6_does (ws_ yX6_does cX6_does 3 (Option.some Jvm.ClassFile.FieldType.boolean)) 9 285 [va_rf p0, va_rf p1, va_rf p2] S (.inl (some (.int r))) S1 := by
  intro p0 p1 p2 S r S1 hF
  unfold fX6_does at hF
  refine gMet.of hl (by decide +kernel) rfl (gle (lgs_r (lgs_r (lgs_r lgs_0))) (by decide)) (fun p e s m below meth c R hRf hRl C _ => ?_)
  generalize hargs : ([va_rf p0, va_rf p1, va_rf p2] : List Value).toArray = args at C ⊢
  generalize hu0 : S.2.2.1 = u0 at C ⊢
  rw [show lv_args 0 [va_rf p0, va_rf p1, va_rf p2] = [(0, va_rf p0), (1, va_rf p1), (2, va_rf p2)] from (lva_r rfl (lva_r rfl (lva_r rfl lva_0)))]
  refine g_aload_n C 2 dX6_does_0 rfl ?_
  refine g_iconst (v := (0 : Int32)) C dX6_does_1 rfl ?_
  refine g_iald C dX6_does_2 hF (fun x1 hF => ?_)
  refine g_case hF (fun c0 hF => ?_) (fun c0 hF => ?_)
  · refine g_tableIn C (0) (37) 40 dX6_does_3 (by rw [c0]; rfl) (by decide) (by decide) rfl rfl ?_
    refine g_aload_n C 0 dX6_does_40 rfl ?_
    refine g_aload_n C 1 dX6_does_41 rfl ?_
    refine g_aload_n C 2 dX6_does_42 rfl ?_
    refine g_iconst (v := (1 : Int32)) C dX6_does_43 rfl ?_
    refine g_iald C dX6_does_44 hF (fun x2 hF => ?_)
    obtain ⟨x3, S4, h, hF⟩ := gB_some hF
    obtain ⟨hi, h⟩ := gV_some h
    refine g_after (g_runV (n := 2) C dX6_does_45 rfl hi (mX6_sings C.2.2.2.2.2.2.2.2.2.2.2.1 p0 p1 x2 S _ _ h) (lw_V q2318 q2320 qs71 q124 q2321) (by decide +kernel) ⟨by rw [hRf]; exact Nat.le_of_ble_eq_true rfl, by rw [hRl]; exact Nat.le_of_ble_eq_true rfl⟩ rfl rfl (gle gc_0 (by decide))) ?_
    obtain ⟨hz, hF⟩ := gIf hF
    cases hF
    exact g_zret (ty := .boolean) C (nrZ hz) dX6_does_48 rfl rfl
  refine g_case hF (fun c1 hF => ?_) (fun c1 hF => ?_)
  · refine g_tableIn C (1) (46) 49 dX6_does_3 (by rw [c1]; rfl) (by decide) (by decide) rfl rfl ?_
    refine g_aload_n C 0 dX6_does_49 rfl ?_
    refine g_aload_n C 1 dX6_does_50 rfl ?_
    obtain ⟨x5, S6, h, hF⟩ := gB_some hF
    obtain ⟨hi, h⟩ := gV_some h
    refine g_after (g_runV (n := 1) C dX6_does_51 rfl hi (mX6_hymns C.2.2.2.2.2.2.2.2.2.2.2.1 p0 p1 S _ _ h) (lw_V q2347 q2349 qs76 q124 q2350) (by decide +kernel) ⟨by rw [hRf]; exact Nat.le_of_ble_eq_true rfl, by rw [hRl]; exact Nat.le_of_ble_eq_true rfl⟩ rfl rfl (gle gc_0 (by decide))) ?_
    refine g_iconst (v := (1 : Int32)) C dX6_does_54 rfl ?_
    cases hF
    exact g_zret (ty := .boolean) C (rfl) dX6_does_55 rfl rfl
  refine g_case hF (fun c2 hF => ?_) (fun c2 hF => ?_)
  · refine g_tableIn C (2) (53) 56 dX6_does_3 (by rw [c2]; rfl) (by decide) (by decide) rfl rfl ?_
    refine g_aload_n C 0 dX6_does_56 rfl ?_
    refine g_aload_n C 1 dX6_does_57 rfl ?_
    obtain ⟨x7, S8, h, hF⟩ := gB_some hF
    obtain ⟨hi, h⟩ := gV_some h
    refine g_after (g_runV (n := 1) C dX6_does_58 rfl hi (mX6_rests C.2.2.2.2.2.2.2.2.2.2.2.1 p0 p1 S _ _ h) (lw_V q2351 q2353 qs77 q124 q2354) (by decide +kernel) ⟨by rw [hRf]; exact Nat.le_of_ble_eq_true rfl, by rw [hRl]; exact Nat.le_of_ble_eq_true rfl⟩ rfl rfl (gle gc_0 (by decide))) ?_
    obtain ⟨hz, hF⟩ := gIf hF
    cases hF
    exact g_zret (ty := .boolean) C (nrZ hz) dX6_does_61 rfl rfl
  refine g_case hF (fun c3 hF => ?_) (fun c3 hF => ?_)
  · refine g_tableIn C (3) (59) 62 dX6_does_3 (by rw [c3]; rfl) (by decide) (by decide) rfl rfl ?_
    refine g_aload_n C 1 dX6_does_62 rfl ?_
    refine g_bipush (v := (7 : Int32)) C dX6_does_63 rfl ?_
    refine g_aload_n C 2 dX6_does_65 rfl ?_
    refine g_iconst (v := (1 : Int32)) C dX6_does_66 rfl ?_
    refine g_iald C dX6_does_67 hF (fun x9 hF => ?_)
    refine g_iadd C dX6_does_68 ?_
    refine g_aload_n C 2 dX6_does_69 rfl ?_
    refine g_iconst (v := (0 : Int32)) C dX6_does_70 rfl ?_
    refine g_iald C dX6_does_71 hF (fun x10 hF => ?_)
    refine g_iconst (v := (3 : Int32)) C dX6_does_72 rfl ?_
    refine g_icmp_ne C 80 dX6_does_73 rfl hF (fun c hF => ?_) (fun c hF => ?_)
    · refine g_iconst (v := (0 : Int32)) C dX6_does_80 rfl ?_
      obtain ⟨x11, S12, h, hF⟩ := gB_some hF
      refine g_after (g_runS (n := 3) C dX6_does_81 (mX6_becomes C.2.2.2.2.2.2.2.2.2.2.2.1 p1 ((7 : Int32) + x9) (0 : Int32) S _ _ h) (lw_S q2355 q2356 q124 q2357) (by decide +kernel) ⟨by rw [hRf]; exact Nat.le_of_ble_eq_true rfl, by rw [hRl]; exact Nat.le_of_ble_eq_true rfl⟩ rfl rfl (gle gc_0 (by decide))) ?_
      obtain ⟨hz, hF⟩ := gIf hF
      cases hF
      exact g_zret (ty := .boolean) C (nrZ hz) dX6_does_84 rfl rfl
    · refine g_iconst (v := (1 : Int32)) C dX6_does_76 rfl ?_
      refine g_goto C 81 dX6_does_77 rfl ?_
      obtain ⟨x13, S14, h, hF⟩ := gB_some hF
      refine g_after (g_runS (n := 3) C dX6_does_81 (mX6_becomes C.2.2.2.2.2.2.2.2.2.2.2.1 p1 ((7 : Int32) + x9) (1 : Int32) S _ _ h) (lw_S q2355 q2356 q124 q2357) (by decide +kernel) ⟨by rw [hRf]; exact Nat.le_of_ble_eq_true rfl, by rw [hRl]; exact Nat.le_of_ble_eq_true rfl⟩ rfl rfl (gle gc_0 (by decide))) ?_
      obtain ⟨hz, hF⟩ := gIf hF
      cases hF
      exact g_zret (ty := .boolean) C (nrZ hz) dX6_does_84 rfl rfl
  refine g_case hF (fun c4 hF => ?_) (fun c4 hF => ?_)
  · refine g_tableIn C (4) (59) 62 dX6_does_3 (by rw [c4]; rfl) (by decide) (by decide) rfl rfl ?_
    refine g_aload_n C 1 dX6_does_62 rfl ?_
    refine g_bipush (v := (7 : Int32)) C dX6_does_63 rfl ?_
    refine g_aload_n C 2 dX6_does_65 rfl ?_
    refine g_iconst (v := (1 : Int32)) C dX6_does_66 rfl ?_
    refine g_iald C dX6_does_67 hF (fun x15 hF => ?_)
    refine g_iadd C dX6_does_68 ?_
    refine g_aload_n C 2 dX6_does_69 rfl ?_
    refine g_iconst (v := (0 : Int32)) C dX6_does_70 rfl ?_
    refine g_iald C dX6_does_71 hF (fun x16 hF => ?_)
    refine g_iconst (v := (3 : Int32)) C dX6_does_72 rfl ?_
    refine g_icmp_ne C 80 dX6_does_73 rfl hF (fun c hF => ?_) (fun c hF => ?_)
    · refine g_iconst (v := (0 : Int32)) C dX6_does_80 rfl ?_
      obtain ⟨x17, S18, h, hF⟩ := gB_some hF
      refine g_after (g_runS (n := 3) C dX6_does_81 (mX6_becomes C.2.2.2.2.2.2.2.2.2.2.2.1 p1 ((7 : Int32) + x15) (0 : Int32) S _ _ h) (lw_S q2355 q2356 q124 q2357) (by decide +kernel) ⟨by rw [hRf]; exact Nat.le_of_ble_eq_true rfl, by rw [hRl]; exact Nat.le_of_ble_eq_true rfl⟩ rfl rfl (gle gc_0 (by decide))) ?_
      obtain ⟨hz, hF⟩ := gIf hF
      cases hF
      exact g_zret (ty := .boolean) C (nrZ hz) dX6_does_84 rfl rfl
    · refine g_iconst (v := (1 : Int32)) C dX6_does_76 rfl ?_
      refine g_goto C 81 dX6_does_77 rfl ?_
      obtain ⟨x19, S20, h, hF⟩ := gB_some hF
      refine g_after (g_runS (n := 3) C dX6_does_81 (mX6_becomes C.2.2.2.2.2.2.2.2.2.2.2.1 p1 ((7 : Int32) + x15) (1 : Int32) S _ _ h) (lw_S q2355 q2356 q124 q2357) (by decide +kernel) ⟨by rw [hRf]; exact Nat.le_of_ble_eq_true rfl, by rw [hRl]; exact Nat.le_of_ble_eq_true rfl⟩ rfl rfl (gle gc_0 (by decide))) ?_
      obtain ⟨hz, hF⟩ := gIf hF
      cases hF
      exact g_zret (ty := .boolean) C (nrZ hz) dX6_does_84 rfl rfl
  refine g_case hF (fun c5 hF => ?_) (fun c5 hF => ?_)
  · refine g_tableIn C (5) (82) 85 dX6_does_3 (by rw [c5]; rfl) (by decide) (by decide) rfl rfl ?_
    refine g_aload_n C 0 dX6_does_85 rfl ?_
    refine g_aload_n C 2 dX6_does_86 rfl ?_
    refine g_iconst (v := (1 : Int32)) C dX6_does_87 rfl ?_
    refine g_iald C dX6_does_88 hF (fun x21 hF => ?_)
    obtain ⟨x22, h, hF⟩ := oB hF
    obtain ⟨hi, h⟩ := gV_some h
    refine g_after (g_runV (n := 1) C dX6_does_89 rfl hi (mX6_wordsOf C.2.2.2.2.2.2.2.2.2.2.2.1 p0 x21 S _ h) (lw_V q2358 q2360 qs78 q124 q2361) (by decide +kernel) ⟨by rw [hRf]; exact Nat.le_of_ble_eq_true rfl, by rw [hRl]; exact Nat.le_of_ble_eq_true rfl⟩ rfl rfl (gle gc_0 (by decide))) ?_
    refine g_aload_n C 2 dX6_does_92 rfl ?_
    refine g_iconst (v := (2 : Int32)) C dX6_does_93 rfl ?_
    refine g_iald C dX6_does_94 hF (fun x23 hF => ?_)
    refine g_after (g_runS (n := 2) C dX6_does_95 (mX6_has C.2.2.2.2.2.2.2.2.2.2.2.1 x22 x23 S _ rfl) (lw_S q2288 q2289 q124 q2290) (by decide +kernel) ⟨by rw [hRf]; exact Nat.le_of_ble_eq_true rfl, by rw [hRl]; exact Nat.le_of_ble_eq_true rfl⟩ rfl rfl (gle gc_0 (by decide))) ?_
    refine g_if_eq C 121 dX6_does_98 rfl hF (fun c hF => ?_) (fun c hF => ?_)
    · refine g_iconst (v := (0 : Int32)) C dX6_does_121 rfl ?_
      cases hF
      exact g_zret (ty := .boolean) C (rfl) dX6_does_122 rfl rfl
    · refine g_aload_n C 1 dX6_does_101 rfl ?_
      refine g_bipush (v := (35 : Int32)) C dX6_does_102 rfl ?_
      refine g_aload_n C 2 dX6_does_104 rfl ?_
      refine g_iconst (v := (1 : Int32)) C dX6_does_105 rfl ?_
      refine g_iald C dX6_does_106 hF (fun x24 hF => ?_)
      refine g_iadd C dX6_does_107 ?_
      refine g_aload_n C 2 dX6_does_108 rfl ?_
      refine g_iconst (v := (2 : Int32)) C dX6_does_109 rfl ?_
      refine g_iald C dX6_does_110 hF (fun x25 hF => ?_)
      obtain ⟨x26, S27, h, hF⟩ := gB_some hF
      refine g_after (g_runS (n := 3) C dX6_does_111 (mX6_becomes C.2.2.2.2.2.2.2.2.2.2.2.1 p1 ((35 : Int32) + x24) x25 S _ _ h) (lw_S q2355 q2356 q124 q2357) (by decide +kernel) ⟨by rw [hRf]; exact Nat.le_of_ble_eq_true rfl, by rw [hRl]; exact Nat.le_of_ble_eq_true rfl⟩ rfl rfl (gle gc_0 (by decide))) ?_
      refine g_if_eq C 121 dX6_does_114 rfl hF (fun c hF => ?_) (fun c hF => ?_)
      · refine g_iconst (v := (0 : Int32)) C dX6_does_121 rfl ?_
        cases hF
        exact g_zret (ty := .boolean) C (rfl) dX6_does_122 rfl rfl
      · refine g_iconst (v := (1 : Int32)) C dX6_does_117 rfl ?_
        refine g_goto C 122 dX6_does_118 rfl ?_
        cases hF
        exact g_zret (ty := .boolean) C (rfl) dX6_does_122 rfl rfl
  have hne := And.intro trivial trivial
  have n0 := lv_neT c0 (show ((0 : Int32)).toInt = 0 by decide)
  have n1 := lv_neT c1 (show ((1 : Int32)).toInt = 1 by decide)
  have n2 := lv_neT c2 (show ((2 : Int32)).toInt = 2 by decide)
  have n3 := lv_neT c3 (show ((3 : Int32)).toInt = 3 by decide)
  have n4 := lv_neT c4 (show ((4 : Int32)).toInt = 4 by decide)
  have n5 := lv_neT c5 (show ((5 : Int32)).toInt = 5 by decide)
  refine g_tableOut C 123 dX6_does_3 (by omega) rfl ?_
  refine g_aload_n C 1 dX6_does_123 rfl ?_
  refine g_bipush (v := (56 : Int32)) C dX6_does_124 rfl ?_
  refine g_iald C dX6_does_126 hF (fun x28 hF => ?_)
  refine g_sipush (v := (400 : Int32)) C dX6_does_127 rfl ?_
  refine g_icmp_lt C 135 dX6_does_130 rfl hF (fun c hF => ?_) (fun c hF => ?_)
  · refine g_aload_n C 0 dX6_does_135 rfl ?_
    refine g_aload_n C 1 dX6_does_136 rfl ?_
    obtain ⟨x29, S30, h, hF⟩ := gB_some hF
    obtain ⟨hi, h⟩ := gV_some h
    refine g_after (g_runV (n := 1) C dX6_does_137 rfl hi (mX6_dayEnds C.2.2.2.2.2.2.2.2.2.2.2.1 p0 p1 S _ _ h) (lw_V q2362 q2364 qs79 q124 q2365) (by decide +kernel) ⟨by rw [hRf]; exact Nat.le_of_ble_eq_true rfl, by rw [hRl]; exact Nat.le_of_ble_eq_true rfl⟩ rfl rfl (gle gc_0 (by decide))) ?_
    refine g_iconst (v := (1 : Int32)) C dX6_does_140 rfl ?_
    cases hF
    exact g_zret (ty := .boolean) C (rfl) dX6_does_141 rfl rfl
  · refine g_iconst (v := (0 : Int32)) C dX6_does_133 rfl ?_
    cases hF
    exact g_zret (ty := .boolean) C (rfl) dX6_does_134 rfl rfl
/-! VowelChoirModel.goes(II)V -/
def fX6_goes_j144 (rec : (Option Nat) → (Int32) → (Int32) → gS → Option (Unit × gS)) (k2 : (Option Nat) → (Int32) → (Int32) → gS → Option (Unit × gS)) (a0 : Option Nat) (a2 : Int32) (a3 : Int32) (S : gS) : Option (Unit × gS) :=
  (oGetR [3] 27 a0 S).bind fun x1 =>
  (oLdR 5 x1 a3 S).bind fun x2 =>
  (oLdI 0 x2 (3 : Int32) S).bind fun x3 =>
  k2 a0 a2 x3 S
def fX6_goes_j140 (rec : (Option Nat) → (Int32) → (Int32) → gS → Option (Unit × gS)) (k2 : (Option Nat) → (Int32) → (Int32) → gS → Option (Unit × gS)) (a0 : Option Nat) (a2 : Int32) (a3 : Int32) (t0 : Int32) (t1 : Int32) (t2 : Option Nat) (S : gS) : Option (Unit × gS) :=
  (oPut [3] 35 t2 (.int (t1 + t0)) S).bind fun S1 =>
  fX6_goes_j144 rec k2 a0 a2 a3 S1
def fX6_goes_j121 (rec : (Option Nat) → (Int32) → (Int32) → gS → Option (Unit × gS)) (k2 : (Option Nat) → (Int32) → (Int32) → gS → Option (Unit × gS)) (a0 : Option Nat) (a2 : Int32) (a3 : Int32) (a4 : Int32) (t0 : Int32) (t1 : Int32) (t2 : Option Nat) (S : gS) : Option (Unit × gS) :=
  (oPut [3] 40 t2 (.int (t1 + t0)) S).bind fun S1 =>
  (oGetI [3] 35 a0 S1).bind fun x2 =>
  (if a4 = 0 then
  fX6_goes_j140 rec k2 a0 a2 a3 (1 : Int32) x2 a0 S1
  else
  fX6_goes_j140 rec k2 a0 a2 a3 (0 : Int32) x2 a0 S1)
def fX6_goes_j87 (rec : (Option Nat) → (Int32) → (Int32) → gS → Option (Unit × gS)) (k2 : (Option Nat) → (Int32) → (Int32) → gS → Option (Unit × gS)) (a0 : Option Nat) (a2 : Int32) (a3 : Int32) (S : gS) : Option (Unit × gS) :=
  fX6_goes_j144 rec k2 a0 a2 a3 S
def fX6_goes_i43 (rec : (Option Nat) → (Int32) → (Int32) → gS → Option (Unit × gS)) (k2 : (Option Nat) → (Int32) → (Int32) → gS → Option (Unit × gS)) (ih : (Option Nat) → (Int32) → (Int32) → (Int32) → gS → Option (Unit × gS)) (a0 : Option Nat) (a2 : Int32) (a3 : Int32) (a4 : Int32) (S : gS) : Option (Unit × gS) :=
  (oGetR [3] 27 a0 S).bind fun x1 =>
  (oLdR 5 x1 a3 S).bind fun x2 =>
  (oLdI 0 x2 (1 : Int32) S).bind fun x3 =>
  (if x3 ≤ a4 then
  fX6_goes_j87 rec k2 a0 a2 a3 S
  else
  (oGetI [3] 39 a0 S).bind fun x4 =>
  (if (200 : Int32) ≤ x4 then
  fX6_goes_j87 rec k2 a0 a2 a3 S
  else
  (oGetR [3] 27 a0 S).bind fun x5 =>
  (oLdR 5 x5 a3 S).bind fun x6 =>
  (oLdI 0 x6 (3 : Int32) S).bind fun x7 =>
  gB (gV [3] a0 S (rec a0 (a3 + (1 : Int32)) x7 S)) fun x8 S9 =>
  ih a0 a2 a3 (a4 + (1 : Int32)) S9))
def fX6_goes_l43 (rec : (Option Nat) → (Int32) → (Int32) → gS → Option (Unit × gS)) (k2 : (Option Nat) → (Int32) → (Int32) → gS → Option (Unit × gS)) : Nat → (Option Nat) → (Int32) → (Int32) → (Int32) → gS → Option (Unit × gS)
  | 0 => fun _ _ _ _ _ => none
  | n + 1 => fun a0 a2 a3 a4 S => fX6_goes_i43 rec k2 (fX6_goes_l43 rec k2 n) a0 a2 a3 a4 S
def fX6_goes_i2 (rec : (Option Nat) → (Int32) → (Int32) → gS → Option (Unit × gS)) (ih : (Option Nat) → (Int32) → (Int32) → gS → Option (Unit × gS)) (a0 : Option Nat) (a2 : Int32) (a3 : Int32) (S : gS) : Option (Unit × gS) :=
  (if a2 ≤ a3 then
  some ((), S)
  else
  (oGetI [3] 39 a0 S).bind fun x1 =>
  (if (200 : Int32) ≤ x1 then
  some ((), S)
  else
  (oGetI [3] 39 a0 S).bind fun x2 =>
  (oPut [3] 39 a0 (.int (x2 + (1 : Int32))) S).bind fun S3 =>
  (oGetR [3] 27 a0 S3).bind fun x4 =>
  (oLdR 5 x4 a3 S3).bind fun x5 =>
  (oLdI 0 x5 (0 : Int32) S3).bind fun x6 =>
  (if x6 = (7 : Int32) then
  fX6_goes_l43 rec ih gFU a0 a2 a3 (0 : Int32) S3
  else
  (oGetR [3] 29 a0 S3).bind fun x7 =>
  (oGetR [3] 27 a0 S3).bind fun x8 =>
  (oLdR 5 x8 a3 S3).bind fun x9 =>
  gB (gV [3] a0 S3 (fX6_does a0 x7 x9 S3)) fun x10 S11 =>
  (oGetI [3] 40 a0 S11).bind fun x12 =>
  (if x10 = 0 then
  fX6_goes_j121 rec ih a0 a2 a3 x10 (0 : Int32) x12 a0 S11
  else
  fX6_goes_j121 rec ih a0 a2 a3 x10 (1 : Int32) x12 a0 S11))))
def fX6_goes_l2 (rec : (Option Nat) → (Int32) → (Int32) → gS → Option (Unit × gS)) : Nat → (Option Nat) → (Int32) → (Int32) → gS → Option (Unit × gS)
  | 0 => fun _ _ _ _ => none
  | n + 1 => fun a0 a2 a3 S => fX6_goes_i2 rec (fX6_goes_l2 rec n) a0 a2 a3 S
def fX6_goes (rec : (Option Nat) → (Int32) → (Int32) → gS → Option (Unit × gS)) (p0 : Option Nat) (p1 : Int32) (p2 : Int32) (S : gS) : Option (Unit × gS) :=
  fX6_goes_l2 rec gFU p0 p2 p1 S
def rX6_goes : Nat → (Option Nat) → (Int32) → (Int32) → gS → Option (Unit × gS)
  | 0 => fun _ _ _ _ => none
  | d + 1 => fX6_goes (rX6_goes d)
theorem wfX6_goes_j144 {r : Unit} {S1 : gS} (C : gCx p l R s m args meth c D K RX6 cX6_goes 5 (Option.none : Option Jvm.ClassFile.FieldType) [] "goes" u0) {rec : (Option Nat) → (Int32) → (Int32) → gS → Option (Unit × gS)} {fr0 lo0 : Nat} (hrec : ∀ (p0 : Option Nat) (p1 : Int32) (p2 : Int32) (S : gS) (r : Unit) (S1 : gS), rec p0 p1 p2 S = some (r, S1) → gMet l D K yX6_goes (ws_ yX6_goes cX6_goes 5 (Option.none : Option Jvm.ClassFile.FieldType)) fr0 lo0 [va_rf p0, .int p1, .int p2] S (.inl none) S1) (hRf : R.frames = (fr0 + 10)) (hRl : R.locals = (lo0 + 307)) (k2 : (Option Nat) → (Int32) → (Int32) → gS → Option (Unit × gS)) (hk2 : ∀ (a0 : Option Nat) (a2 : Int32) (a3 : Int32) (S : gS), k2 a0 a2 a3 S = some (r, S1) → gW p l e R s m args below meth c D K 5 u0 (gEnd below args s D K u0 (.inl none) S1) S 2 [(0, va_rf a0), (2, .int a2), (3, .int a3)] []) : ∀ (a0 : Option Nat) (a2 : Int32) (a3 : Int32) (S : gS), fX6_goes_j144 rec k2 a0 a2 a3 S = some (r, S1) → gW p l e R s m args below meth c D K 5 u0 (gEnd below args s D K u0 (.inl none) S1) S 144 [(0, va_rf a0), (2, .int a2), (3, .int a3)] [] := by
  intro a0 a2 a3 S hF
  unfold fX6_goes_j144 at hF
  refine g_aload_n C 0 dX6_goes_144 rfl ?_
  refine g_getR C dX6_goes_145 fd_37 (Or.inl q2055) (Or.inl rfl) hF (fun x1 hF => ?_)
  refine g_iload_n C 2 dX6_goes_148 rfl ?_
  refine g_aald C (kd := 5) rfl dX6_goes_149 hF (fun x2 hF => ?_)
  refine g_iconst (v := (3 : Int32)) C dX6_goes_150 rfl ?_
  refine g_iald C dX6_goes_151 hF (fun x3 hF => ?_)
  refine g_istore_n C dX6_goes_152 (by decide) rfl ?_
  refine g_goto C 2 dX6_goes_153 rfl ?_
  exact g_sub [1, 2, 0] rfl (hk2 a0 a2 x3 S hF)
theorem wfX6_goes_j140 {r : Unit} {S1 : gS} (C : gCx p l R s m args meth c D K RX6 cX6_goes 5 (Option.none : Option Jvm.ClassFile.FieldType) [] "goes" u0) {rec : (Option Nat) → (Int32) → (Int32) → gS → Option (Unit × gS)} {fr0 lo0 : Nat} (hrec : ∀ (p0 : Option Nat) (p1 : Int32) (p2 : Int32) (S : gS) (r : Unit) (S1 : gS), rec p0 p1 p2 S = some (r, S1) → gMet l D K yX6_goes (ws_ yX6_goes cX6_goes 5 (Option.none : Option Jvm.ClassFile.FieldType)) fr0 lo0 [va_rf p0, .int p1, .int p2] S (.inl none) S1) (hRf : R.frames = (fr0 + 10)) (hRl : R.locals = (lo0 + 307)) (k2 : (Option Nat) → (Int32) → (Int32) → gS → Option (Unit × gS)) (hk2 : ∀ (a0 : Option Nat) (a2 : Int32) (a3 : Int32) (S : gS), k2 a0 a2 a3 S = some (r, S1) → gW p l e R s m args below meth c D K 5 u0 (gEnd below args s D K u0 (.inl none) S1) S 2 [(0, va_rf a0), (2, .int a2), (3, .int a3)] []) : ∀ (a0 : Option Nat) (a2 : Int32) (a3 : Int32) (t0 : Int32) (t1 : Int32) (t2 : Option Nat) (S : gS), fX6_goes_j140 rec k2 a0 a2 a3 t0 t1 t2 S = some (r, S1) → gW p l e R s m args below meth c D K 5 u0 (gEnd below args s D K u0 (.inl none) S1) S 140 [(0, va_rf a0), (2, .int a2), (3, .int a3)] [.int t0, .int t1, va_rf t2] := by
  intro a0 a2 a3 t0 t1 t2 S hF
  unfold fX6_goes_j140 at hF
  refine g_iadd C dX6_goes_140 ?_
  refine g_put C dX6_goes_141 fd_26 (Or.inl q2063) (Or.inl rfl) pf_0 rfl rfl hF (fun S1 hF => ?_)
  exact g_sub [0, 1, 2] rfl (wfX6_goes_j144 C hrec hRf hRl (k2) (hk2) a0 a2 a3 S1 hF)
theorem wfX6_goes_j121 {r : Unit} {S1 : gS} (C : gCx p l R s m args meth c D K RX6 cX6_goes 5 (Option.none : Option Jvm.ClassFile.FieldType) [] "goes" u0) {rec : (Option Nat) → (Int32) → (Int32) → gS → Option (Unit × gS)} {fr0 lo0 : Nat} (hrec : ∀ (p0 : Option Nat) (p1 : Int32) (p2 : Int32) (S : gS) (r : Unit) (S1 : gS), rec p0 p1 p2 S = some (r, S1) → gMet l D K yX6_goes (ws_ yX6_goes cX6_goes 5 (Option.none : Option Jvm.ClassFile.FieldType)) fr0 lo0 [va_rf p0, .int p1, .int p2] S (.inl none) S1) (hRf : R.frames = (fr0 + 10)) (hRl : R.locals = (lo0 + 307)) (k2 : (Option Nat) → (Int32) → (Int32) → gS → Option (Unit × gS)) (hk2 : ∀ (a0 : Option Nat) (a2 : Int32) (a3 : Int32) (S : gS), k2 a0 a2 a3 S = some (r, S1) → gW p l e R s m args below meth c D K 5 u0 (gEnd below args s D K u0 (.inl none) S1) S 2 [(0, va_rf a0), (2, .int a2), (3, .int a3)] []) : ∀ (a0 : Option Nat) (a2 : Int32) (a3 : Int32) (a4 : Int32) (t0 : Int32) (t1 : Int32) (t2 : Option Nat) (S : gS), fX6_goes_j121 rec k2 a0 a2 a3 a4 t0 t1 t2 S = some (r, S1) → gW p l e R s m args below meth c D K 5 u0 (gEnd below args s D K u0 (.inl none) S1) S 121 [(0, va_rf a0), (2, .int a2), (3, .int a3), (4, .int a4)] [.int t0, .int t1, va_rf t2] := by
  intro a0 a2 a3 a4 t0 t1 t2 S hF
  unfold fX6_goes_j121 at hF
  refine g_iadd C dX6_goes_121 ?_
  refine g_put C dX6_goes_122 fd_56 (Or.inl q2068) (Or.inl rfl) pf_0 rfl rfl hF (fun S1 hF => ?_)
  refine g_aload_n C 0 dX6_goes_125 rfl ?_
  refine g_dup C dX6_goes_126 (g_cr _) ?_
  refine g_getI C dX6_goes_127 fd_26 (Or.inl q2063) (Or.inl rfl) hF (fun x2 hF => ?_)
  refine g_iload C 3 dX6_goes_130 rfl ?_
  refine g_if_eq C 139 dX6_goes_132 rfl hF (fun c hF => ?_) (fun c hF => ?_)
  · refine g_iconst (v := (1 : Int32)) C dX6_goes_139 rfl ?_
    exact g_sub [0, 1, 2] rfl (wfX6_goes_j140 C hrec hRf hRl (k2) (hk2) a0 a2 a3 (1 : Int32) x2 a0 S1 hF)
  · refine g_iconst (v := (0 : Int32)) C dX6_goes_135 rfl ?_
    refine g_goto C 140 dX6_goes_136 rfl ?_
    exact g_sub [0, 1, 2] rfl (wfX6_goes_j140 C hrec hRf hRl (k2) (hk2) a0 a2 a3 (0 : Int32) x2 a0 S1 hF)
theorem wfX6_goes_j87 {r : Unit} {S1 : gS} (C : gCx p l R s m args meth c D K RX6 cX6_goes 5 (Option.none : Option Jvm.ClassFile.FieldType) [] "goes" u0) {rec : (Option Nat) → (Int32) → (Int32) → gS → Option (Unit × gS)} {fr0 lo0 : Nat} (hrec : ∀ (p0 : Option Nat) (p1 : Int32) (p2 : Int32) (S : gS) (r : Unit) (S1 : gS), rec p0 p1 p2 S = some (r, S1) → gMet l D K yX6_goes (ws_ yX6_goes cX6_goes 5 (Option.none : Option Jvm.ClassFile.FieldType)) fr0 lo0 [va_rf p0, .int p1, .int p2] S (.inl none) S1) (hRf : R.frames = (fr0 + 10)) (hRl : R.locals = (lo0 + 307)) (k2 : (Option Nat) → (Int32) → (Int32) → gS → Option (Unit × gS)) (hk2 : ∀ (a0 : Option Nat) (a2 : Int32) (a3 : Int32) (S : gS), k2 a0 a2 a3 S = some (r, S1) → gW p l e R s m args below meth c D K 5 u0 (gEnd below args s D K u0 (.inl none) S1) S 2 [(0, va_rf a0), (2, .int a2), (3, .int a3)] []) : ∀ (a0 : Option Nat) (a2 : Int32) (a3 : Int32) (S : gS), fX6_goes_j87 rec k2 a0 a2 a3 S = some (r, S1) → gW p l e R s m args below meth c D K 5 u0 (gEnd below args s D K u0 (.inl none) S1) S 87 [(0, va_rf a0), (2, .int a2), (3, .int a3)] [] := by
  intro a0 a2 a3 S hF
  unfold fX6_goes_j87 at hF
  refine g_goto C 144 dX6_goes_87 rfl ?_
  exact g_sub [0, 1, 2] rfl (wfX6_goes_j144 C hrec hRf hRl (k2) (hk2) a0 a2 a3 S hF)
theorem wfX6_goes_l43 {r : Unit} {S1 : gS} (C : gCx p l R s m args meth c D K RX6 cX6_goes 5 (Option.none : Option Jvm.ClassFile.FieldType) [] "goes" u0) {rec : (Option Nat) → (Int32) → (Int32) → gS → Option (Unit × gS)} {fr0 lo0 : Nat} (hrec : ∀ (p0 : Option Nat) (p1 : Int32) (p2 : Int32) (S : gS) (r : Unit) (S1 : gS), rec p0 p1 p2 S = some (r, S1) → gMet l D K yX6_goes (ws_ yX6_goes cX6_goes 5 (Option.none : Option Jvm.ClassFile.FieldType)) fr0 lo0 [va_rf p0, .int p1, .int p2] S (.inl none) S1) (hRf : R.frames = (fr0 + 10)) (hRl : R.locals = (lo0 + 307)) (k2 : (Option Nat) → (Int32) → (Int32) → gS → Option (Unit × gS)) (hk2 : ∀ (a0 : Option Nat) (a2 : Int32) (a3 : Int32) (S : gS), k2 a0 a2 a3 S = some (r, S1) → gW p l e R s m args below meth c D K 5 u0 (gEnd below args s D K u0 (.inl none) S1) S 2 [(0, va_rf a0), (2, .int a2), (3, .int a3)] []) : ∀ (n : Nat) (a0 : Option Nat) (a2 : Int32) (a3 : Int32) (a4 : Int32) (S : gS), fX6_goes_l43 rec k2 n a0 a2 a3 a4 S = some (r, S1) → gW p l e R s m args below meth c D K 5 u0 (gEnd below args s D K u0 (.inl none) S1) S 43 [(0, va_rf a0), (2, .int a2), (3, .int a3), (4, .int a4)] [] := by
  intro n
  induction n with
  | zero => intro a0 a2 a3 a4 S hF; cases hF
  | succ n hih =>
    intro a0 a2 a3 a4 S hF
    have hF : fX6_goes_i43 rec k2 (fX6_goes_l43 rec k2 n) a0 a2 a3 a4 S = some (r, S1) := hF
    revert hF hih
    generalize fX6_goes_l43 rec k2 n = ih
    intro hih hF
    unfold fX6_goes_i43 at hF
    refine g_iload C 3 dX6_goes_43 rfl ?_
    refine g_aload_n C 0 dX6_goes_45 rfl ?_
    refine g_getR C dX6_goes_46 fd_37 (Or.inl q2055) (Or.inl rfl) hF (fun x1 hF => ?_)
    refine g_iload_n C 2 dX6_goes_49 rfl ?_
    refine g_aald C (kd := 5) rfl dX6_goes_50 hF (fun x2 hF => ?_)
    refine g_iconst (v := (1 : Int32)) C dX6_goes_51 rfl ?_
    refine g_iald C dX6_goes_52 hF (fun x3 hF => ?_)
    refine g_icmp_ge C 87 dX6_goes_53 rfl hF (fun c hF => ?_) (fun c hF => ?_)
    · exact g_sub [0, 1, 2] rfl (wfX6_goes_j87 C hrec hRf hRl (k2) (hk2) a0 a2 a3 S hF)
    · refine g_aload_n C 0 dX6_goes_56 rfl ?_
      refine g_getI C dX6_goes_57 fd_55 (Or.inl q2067) (Or.inl rfl) hF (fun x4 hF => ?_)
      refine g_sipush (v := (200 : Int32)) C dX6_goes_60 rfl ?_
      refine g_icmp_ge C 87 dX6_goes_63 rfl hF (fun c hF => ?_) (fun c hF => ?_)
      · exact g_sub [0, 1, 2] rfl (wfX6_goes_j87 C hrec hRf hRl (k2) (hk2) a0 a2 a3 S hF)
      · refine g_aload_n C 0 dX6_goes_66 rfl ?_
        refine g_iload_n C 2 dX6_goes_67 rfl ?_
        refine g_iconst (v := (1 : Int32)) C dX6_goes_68 rfl ?_
        refine g_iadd C dX6_goes_69 ?_
        refine g_aload_n C 0 dX6_goes_70 rfl ?_
        refine g_getR C dX6_goes_71 fd_37 (Or.inl q2055) (Or.inl rfl) hF (fun x5 hF => ?_)
        refine g_iload_n C 2 dX6_goes_74 rfl ?_
        refine g_aald C (kd := 5) rfl dX6_goes_75 hF (fun x6 hF => ?_)
        refine g_iconst (v := (3 : Int32)) C dX6_goes_76 rfl ?_
        refine g_iald C dX6_goes_77 hF (fun x7 hF => ?_)
        obtain ⟨x8, S9, h, hF⟩ := gB_some hF
        obtain ⟨hi, h⟩ := gV_some h
        refine g_after (g_runV (n := 2) C dX6_goes_78 rfl hi (hrec a0 (a3 + (1 : Int32)) x7 S _ _ h) (lw_V q2310 q2312 qs69 q124 q2313) (by decide +kernel) ⟨by rw [hRf]; omega, by rw [hRl]; omega⟩ rfl rfl (gle gc_0 (by decide))) ?_
        refine g_iinc (v := (1 : Int32)) C 3 dX6_goes_81 rfl rfl (by decide) rfl ?_
        refine g_goto C 43 dX6_goes_84 rfl ?_
        exact g_sub [1, 2, 3, 0] rfl (hih a0 a2 a3 (a4 + (1 : Int32)) S9 hF)
theorem wfX6_goes_l2 {r : Unit} {S1 : gS} (C : gCx p l R s m args meth c D K RX6 cX6_goes 5 (Option.none : Option Jvm.ClassFile.FieldType) [] "goes" u0) {rec : (Option Nat) → (Int32) → (Int32) → gS → Option (Unit × gS)} {fr0 lo0 : Nat} (hrec : ∀ (p0 : Option Nat) (p1 : Int32) (p2 : Int32) (S : gS) (r : Unit) (S1 : gS), rec p0 p1 p2 S = some (r, S1) → gMet l D K yX6_goes (ws_ yX6_goes cX6_goes 5 (Option.none : Option Jvm.ClassFile.FieldType)) fr0 lo0 [va_rf p0, .int p1, .int p2] S (.inl none) S1) (hRf : R.frames = (fr0 + 10)) (hRl : R.locals = (lo0 + 307)) : ∀ (n : Nat) (a0 : Option Nat) (a2 : Int32) (a3 : Int32) (S : gS), fX6_goes_l2 rec n a0 a2 a3 S = some (r, S1) → gW p l e R s m args below meth c D K 5 u0 (gEnd below args s D K u0 (.inl none) S1) S 2 [(0, va_rf a0), (2, .int a2), (3, .int a3)] [] := by
  intro n
  induction n with
  | zero => intro a0 a2 a3 S hF; cases hF
  | succ n hih =>
    intro a0 a2 a3 S hF
    have hF : fX6_goes_i2 rec (fX6_goes_l2 rec n) a0 a2 a3 S = some (r, S1) := hF
    revert hF hih
    generalize fX6_goes_l2 rec n = ih
    intro hih hF
    unfold fX6_goes_i2 at hF
    refine g_iload_n C 2 dX6_goes_2 rfl ?_
    refine g_iload_n C 1 dX6_goes_3 rfl ?_
    refine g_icmp_ge C 156 dX6_goes_4 rfl hF (fun c hF => ?_) (fun c hF => ?_)
    · cases hF
      exact g_vret C dX6_goes_156 rfl rfl
    · refine g_aload_n C 0 dX6_goes_7 rfl ?_
      refine g_getI C dX6_goes_8 fd_55 (Or.inl q2067) (Or.inl rfl) hF (fun x1 hF => ?_)
      refine g_sipush (v := (200 : Int32)) C dX6_goes_11 rfl ?_
      refine g_icmp_ge C 156 dX6_goes_14 rfl hF (fun c hF => ?_) (fun c hF => ?_)
      · cases hF
        exact g_vret C dX6_goes_156 rfl rfl
      · refine g_aload_n C 0 dX6_goes_17 rfl ?_
        refine g_dup C dX6_goes_18 (g_cr _) ?_
        refine g_getI C dX6_goes_19 fd_55 (Or.inl q2067) (Or.inl rfl) hF (fun x2 hF => ?_)
        refine g_iconst (v := (1 : Int32)) C dX6_goes_22 rfl ?_
        refine g_iadd C dX6_goes_23 ?_
        refine g_put C dX6_goes_24 fd_55 (Or.inl q2067) (Or.inl rfl) pf_0 rfl rfl hF (fun S3 hF => ?_)
        refine g_aload_n C 0 dX6_goes_27 rfl ?_
        refine g_getR C dX6_goes_28 fd_37 (Or.inl q2055) (Or.inl rfl) hF (fun x4 hF => ?_)
        refine g_iload_n C 2 dX6_goes_31 rfl ?_
        refine g_aald C (kd := 5) rfl dX6_goes_32 hF (fun x5 hF => ?_)
        refine g_iconst (v := (0 : Int32)) C dX6_goes_33 rfl ?_
        refine g_iald C dX6_goes_34 hF (fun x6 hF => ?_)
        refine g_bipush (v := (7 : Int32)) C dX6_goes_35 rfl ?_
        refine g_icmp_ne C 90 dX6_goes_37 rfl hF (fun c hF => ?_) (fun c hF => ?_)
        · refine g_aload_n C 0 dX6_goes_90 rfl ?_
          refine g_aload_n C 0 dX6_goes_91 rfl ?_
          refine g_getR C dX6_goes_92 fd_22 (Or.inl q2057) (Or.inl rfl) hF (fun x7 hF => ?_)
          refine g_aload_n C 0 dX6_goes_95 rfl ?_
          refine g_getR C dX6_goes_96 fd_37 (Or.inl q2055) (Or.inl rfl) hF (fun x8 hF => ?_)
          refine g_iload_n C 2 dX6_goes_99 rfl ?_
          refine g_aald C (kd := 5) rfl dX6_goes_100 hF (fun x9 hF => ?_)
          obtain ⟨x10, S11, h, hF⟩ := gB_some hF
          obtain ⟨hi, h⟩ := gV_some h
          refine g_after (g_runV (n := 2) C dX6_goes_101 rfl hi (mX6_does C.2.2.2.2.2.2.2.2.2.2.2.1 a0 x7 x9 S3 _ _ h) (lw_V q2314 q2316 qs70 q124 q2317) (by decide +kernel) ⟨by rw [hRf]; omega, by rw [hRl]; omega⟩ rfl rfl (gle gc_0 (by decide))) ?_
          refine g_istore C dX6_goes_104 (by decide) rfl ?_
          refine g_aload_n C 1 dX6_goes_106 rfl ?_
          refine g_dup C dX6_goes_107 (g_cr _) ?_
          refine g_getI C dX6_goes_108 fd_56 (Or.inl q2068) (Or.inl rfl) hF (fun x12 hF => ?_)
          refine g_iload C 0 dX6_goes_111 rfl ?_
          refine g_if_eq C 120 dX6_goes_113 rfl hF (fun c hF => ?_) (fun c hF => ?_)
          · refine g_iconst (v := (0 : Int32)) C dX6_goes_120 rfl ?_
            exact g_sub [1, 2, 3, 0] rfl (wfX6_goes_j121 C hrec hRf hRl (ih) (hih) a0 a2 a3 x10 (0 : Int32) x12 a0 S11 hF)
          · refine g_iconst (v := (1 : Int32)) C dX6_goes_116 rfl ?_
            refine g_goto C 121 dX6_goes_117 rfl ?_
            exact g_sub [1, 2, 3, 0] rfl (wfX6_goes_j121 C hrec hRf hRl (ih) (hih) a0 a2 a3 x10 (1 : Int32) x12 a0 S11 hF)
        · refine g_iconst (v := (0 : Int32)) C dX6_goes_40 rfl ?_
          refine g_istore C dX6_goes_41 (by decide) rfl ?_
          exact g_sub [1, 2, 3, 0] rfl (wfX6_goes_l43 C hrec hRf hRl (ih) (hih) gFU a0 a2 a3 (0 : Int32) S3 hF)
theorem mX6_goes {l : Launch} {D : gD} {K : gK} (hl : l.stackTraces = false) {rec : (Option Nat) → (Int32) → (Int32) → gS → Option (Unit × gS)} {fr0 lo0 : Nat} (hrec : ∀ (p0 : Option Nat) (p1 : Int32) (p2 : Int32) (S : gS) (r : Unit) (S1 : gS), rec p0 p1 p2 S = some (r, S1) → gMet l D K yX6_goes (ws_ yX6_goes cX6_goes 5 (Option.none : Option Jvm.ClassFile.FieldType)) fr0 lo0 [va_rf p0, .int p1, .int p2] S (.inl none) S1) : ∀ (p0 : Option Nat) (p1 : Int32) (p2 : Int32) (S : gS) (r : Unit) (S1 : gS), fX6_goes rec p0 p1 p2 S = some (r, S1) → gMet l D K yX6_goes (ws_ yX6_goes cX6_goes 5 (Option.none : Option Jvm.ClassFile.FieldType)) (fr0 + 10) (lo0 + 307) [va_rf p0, .int p1, .int p2] S (.inl none) S1 := by
  intro p0 p1 p2 S r S1 hF
  unfold fX6_goes at hF
  refine gMet.of hl (by decide +kernel) rfl (gle (lgs_r (lgs_i (lgs_i lgs_0))) (by decide)) (fun p e s m below meth c R hRf hRl C _ => ?_)
  generalize hargs : ([va_rf p0, .int p1, .int p2] : List Value).toArray = args at C ⊢
  generalize hu0 : S.2.2.1 = u0 at C ⊢
  rw [show lv_args 0 [va_rf p0, .int p1, .int p2] = [(0, va_rf p0), (1, .int p1), (2, .int p2)] from (lva_r rfl (lva_i rfl (lva_i rfl lva_0)))]
  refine g_iload_n C 1 dX6_goes_0 rfl ?_
  refine g_istore_n C dX6_goes_1 (by decide) rfl ?_
  exact g_sub [1, 3, 0] rfl (wfX6_goes_l2 C hrec hRf hRl gFU p0 p2 p1 S hF)
theorem kX6_goes {l : Launch} {D : gD} {K : gK} (hl : l.stackTraces = false) : ∀ (d : Nat) (p0 : Option Nat) (p1 : Int32) (p2 : Int32) (S : gS) (r : Unit) (S1 : gS), rX6_goes d p0 p1 p2 S = some (r, S1) → gMet l D K yX6_goes (ws_ yX6_goes cX6_goes 5 (Option.none : Option Jvm.ClassFile.FieldType)) (10 * d) (307 * d) [va_rf p0, .int p1, .int p2] S (.inl none) S1 := by
  intro d
  induction d with
  | zero => intro p0 p1 p2 S r S1 hF; cases hF
  | succ d ih =>
    intro p0 p1 p2 S r S1 hF
    exact mX6_goes hl ih p0 p1 p2 S r S1 hF
/-! VowelChoirModel.work(I)I -/
def fX6_work_j101 (a0 : Option Nat) (S : gS) : Option (Int32 × gS) :=
  (oGetI [3] 5 a0 S).bind fun x1 =>
  (if x1 = 0 then
  (oPut [3] 3 a0 (.int ((-1 : Int32))) S).bind fun S2 =>
  (oGetR [3] 29 a0 S2).bind fun x3 =>
  (oGetR [3] 31 a0 S2).bind fun x4 =>
  (oGetI [3] 34 a0 S2).bind fun x5 =>
  (oLdR 5 x4 x5 S2).bind fun x6 =>
  gB (fX6_copies x3 x6 S2) fun x7 S8 =>
  (oGetI [3] 34 a0 S8).bind fun x9 =>
  (oPut [3] 34 a0 (.int (x9 + (1 : Int32))) S8).bind fun S10 =>
  (oPut [3] 39 a0 (.int ((0 : Int32))) S10).bind fun S11 =>
  (oPut [3] 40 a0 (.int ((0 : Int32))) S11).bind fun S12 =>
  (oPut [3] 35 a0 (.int ((0 : Int32))) S12).bind fun S13 =>
  (oGetI [3] 28 a0 S13).bind fun x14 =>
  gB (gV [3] a0 S13 (rX6_goes 20 a0 (0 : Int32) x14 S13)) fun x15 S16 =>
  (oGetI [3] 40 a0 S16).bind fun x17 =>
  some (x17, S16)
  else
  gB (gV [3] a0 S (fX6_ends a0 S)) fun x18 S19 =>
  some (x18, S19))
def fX6_work_i72 (ih : (Option Nat) → gS → Option (Int32 × gS)) (a0 : Option Nat) (S : gS) : Option (Int32 × gS) :=
  (oGetI [3] 5 a0 S).bind fun x1 =>
  (if x1 = 0 then
  (oGetI [3] 4 a0 S).bind fun x2 =>
  (oGetI [3] 2 a0 S).bind fun x3 =>
  (if x3 ≤ x2 then
  fX6_work_j101 a0 S
  else
  gB (gV [3] a0 S (rX6_readsStep 20 a0 S)) fun x4 S5 =>
  gB (gV [3] a0 S5 (fX6_blanks a0 S5)) fun x6 S7 =>
  ih a0 S7)
  else
  fX6_work_j101 a0 S)
def fX6_work_l72 : Nat → (Option Nat) → gS → Option (Int32 × gS)
  | 0 => fun _ _ => none
  | n + 1 => fun a0 S => fX6_work_i72 (fX6_work_l72 n) a0 S
def fX6_work_j30 (a0 : Option Nat) (a1 : Int32) (t0 : Int32) (t1 : Option Nat) (S : gS) : Option (Int32 × gS) :=
  gB (gV [3] t1 S (fX6_bad t1 t0 (1 : Int32) (1 : Int32) S)) fun x1 S2 =>
  (if x1 = 0 then
  (oGetI [3] 34 a0 S2).bind fun x3 =>
  (if x3 = (16 : Int32) then
  (oPut [3] 1 a0 (.int ((0 : Int32))) S2).bind fun S7 =>
  (oPut [3] 3 a0 (.int ((-1 : Int32))) S7).bind fun S8 =>
  some ((-20 : Int32), S8)
  else
  gB (gV [3] a0 S2 (fX6_starts a0 a1 S2)) fun x4 S5 =>
  (oPut [3] 28 a0 (.int ((0 : Int32))) S5).bind fun S6 =>
  fX6_work_l72 gFU a0 S6)
  else
  some ((0 : Int32), S2))
def fX6_work_j25 (a0 : Option Nat) (a1 : Int32) (t0 : Option Nat) (S : gS) : Option (Int32 × gS) :=
  fX6_work_j30 a0 a1 (1 : Int32) t0 S
def fX6_work (p0 : Option Nat) (p1 : Int32) (S : gS) : Option (Int32 × gS) :=
  (oPut [3] 0 p0 (.int ((0 : Int32))) S).bind fun S1 =>
  (oGetI [3] 1 p0 S1).bind fun x2 =>
  (if (fX6_in p1 (0 : Int32) x2) = 0 then
  fX6_work_j25 p0 p1 p0 S1
  else
  (if p1 ≤ (150 : Int32) then
  fX6_work_j30 p0 p1 (0 : Int32) p0 S1
  else
  fX6_work_j25 p0 p1 p0 S1))
theorem wfX6_work_j101 {r : Int32} {S1 : gS} (C : gCx p l R s m args meth c D K RX6 cX6_work 2 (Option.some Jvm.ClassFile.FieldType.int) [] "work" u0) (hRf : R.frames = 201) (hRl : R.locals = 6164) : ∀ (a0 : Option Nat) (S : gS), fX6_work_j101 a0 S = some (r, S1) → gW p l e R s m args below meth c D K 2 u0 (gEnd below args s D K u0 (.inl (some (.int r))) S1) S 101 [(0, va_rf a0)] [] := by
  intro a0 S hF
  unfold fX6_work_j101 at hF
  refine g_aload_n C 0 dX6_work_101 rfl ?_
  refine g_getI C dX6_work_102 fd_48 (Or.inl q2033) (Or.inl rfl) hF (fun x1 hF => ?_)
  refine g_if_eq C 113 dX6_work_105 rfl hF (fun c hF => ?_) (fun c hF => ?_)
  · refine g_aload_n C 0 dX6_work_113 rfl ?_
    refine g_iconst (v := (-1 : Int32)) C dX6_work_114 rfl ?_
    refine g_put C dX6_work_115 fd_28 (Or.inl q2031) (Or.inl rfl) pf_0 rfl rfl hF (fun S2 hF => ?_)
    refine g_aload_n C 0 dX6_work_118 rfl ?_
    refine g_getR C dX6_work_119 fd_22 (Or.inl q2057) (Or.inl rfl) hF (fun x3 hF => ?_)
    refine g_aload_n C 0 dX6_work_122 rfl ?_
    refine g_getR C dX6_work_123 fd_39 (Or.inl q2059) (Or.inl rfl) hF (fun x4 hF => ?_)
    refine g_aload_n C 0 dX6_work_126 rfl ?_
    refine g_getI C dX6_work_127 fd_25 (Or.inl q2062) (Or.inl rfl) hF (fun x5 hF => ?_)
    refine g_aald C (kd := 5) rfl dX6_work_130 hF (fun x6 hF => ?_)
    obtain ⟨x7, S8, h, hF⟩ := gB_some hF
    refine g_after (g_runS (n := 2) C dX6_work_131 (mX6_copies C.2.2.2.2.2.2.2.2.2.2.2.1 x3 x6 S2 _ _ h) (lw_S q2307 q2308 q124 q2309) (by decide +kernel) ⟨by rw [hRf]; exact Nat.le_of_ble_eq_true rfl, by rw [hRl]; exact Nat.le_of_ble_eq_true rfl⟩ rfl rfl (gle gc_0 (by decide))) ?_
    refine g_aload_n C 0 dX6_work_134 rfl ?_
    refine g_dup C dX6_work_135 (g_cr _) ?_
    refine g_getI C dX6_work_136 fd_25 (Or.inl q2062) (Or.inl rfl) hF (fun x9 hF => ?_)
    refine g_iconst (v := (1 : Int32)) C dX6_work_139 rfl ?_
    refine g_iadd C dX6_work_140 ?_
    refine g_put C dX6_work_141 fd_25 (Or.inl q2062) (Or.inl rfl) pf_0 rfl rfl hF (fun S10 hF => ?_)
    refine g_aload_n C 0 dX6_work_144 rfl ?_
    refine g_iconst (v := (0 : Int32)) C dX6_work_145 rfl ?_
    refine g_put C dX6_work_146 fd_55 (Or.inl q2067) (Or.inl rfl) pf_0 rfl rfl hF (fun S11 hF => ?_)
    refine g_aload_n C 0 dX6_work_149 rfl ?_
    refine g_iconst (v := (0 : Int32)) C dX6_work_150 rfl ?_
    refine g_put C dX6_work_151 fd_56 (Or.inl q2068) (Or.inl rfl) pf_0 rfl rfl hF (fun S12 hF => ?_)
    refine g_aload_n C 0 dX6_work_154 rfl ?_
    refine g_iconst (v := (0 : Int32)) C dX6_work_155 rfl ?_
    refine g_put C dX6_work_156 fd_26 (Or.inl q2063) (Or.inl rfl) pf_0 rfl rfl hF (fun S13 hF => ?_)
    refine g_aload_n C 0 dX6_work_159 rfl ?_
    refine g_iconst (v := (0 : Int32)) C dX6_work_160 rfl ?_
    refine g_aload_n C 0 dX6_work_161 rfl ?_
    refine g_getI C dX6_work_162 fd_53 (Or.inl q2056) (Or.inl rfl) hF (fun x14 hF => ?_)
    obtain ⟨x15, S16, h, hF⟩ := gB_some hF
    obtain ⟨hi, h⟩ := gV_some h
    refine g_after (g_runV (n := 2) C dX6_work_165 rfl hi (kX6_goes C.2.2.2.2.2.2.2.2.2.2.2.1 20 a0 (0 : Int32) x14 S13 _ _ h) (lw_V q2310 q2312 qs69 q124 q2313) (by decide +kernel) ⟨by rw [hRf]; exact Nat.le_of_ble_eq_true rfl, by rw [hRl]; exact Nat.le_of_ble_eq_true rfl⟩ rfl rfl (gle gc_0 (by decide))) ?_
    refine g_aload_n C 0 dX6_work_168 rfl ?_
    refine g_getI C dX6_work_169 fd_56 (Or.inl q2068) (Or.inl rfl) hF (fun x17 hF => ?_)
    cases hF
    exact g_iret C dX6_work_172 rfl rfl
  · refine g_aload_n C 0 dX6_work_108 rfl ?_
    obtain ⟨x18, S19, h, hF⟩ := gB_some hF
    obtain ⟨hi, h⟩ := gV_some h
    refine g_after (g_runV (n := 0) C dX6_work_109 rfl hi (mX6_ends C.2.2.2.2.2.2.2.2.2.2.2.1 a0 S _ _ h) (lw_V q2244 q2246 qs58 q124 q2247) (by decide +kernel) ⟨by rw [hRf]; exact Nat.le_of_ble_eq_true rfl, by rw [hRl]; exact Nat.le_of_ble_eq_true rfl⟩ rfl rfl (gle gc_0 (by decide))) ?_
    cases hF
    exact g_iret C dX6_work_112 rfl rfl
theorem wfX6_work_l72 {r : Int32} {S1 : gS} (C : gCx p l R s m args meth c D K RX6 cX6_work 2 (Option.some Jvm.ClassFile.FieldType.int) [] "work" u0) (hRf : R.frames = 201) (hRl : R.locals = 6164) : ∀ (n : Nat) (a0 : Option Nat) (S : gS), fX6_work_l72 n a0 S = some (r, S1) → gW p l e R s m args below meth c D K 2 u0 (gEnd below args s D K u0 (.inl (some (.int r))) S1) S 72 [(0, va_rf a0)] [] := by
  intro n
  induction n with
  | zero => intro a0 S hF; cases hF
  | succ n hih =>
    intro a0 S hF
    have hF : fX6_work_i72 (fX6_work_l72 n) a0 S = some (r, S1) := hF
    revert hF hih
    generalize fX6_work_l72 n = ih
    intro hih hF
    unfold fX6_work_i72 at hF
    refine g_aload_n C 0 dX6_work_72 rfl ?_
    refine g_getI C dX6_work_73 fd_48 (Or.inl q2033) (Or.inl rfl) hF (fun x1 hF => ?_)
    refine g_if_ne C 101 dX6_work_76 rfl hF (fun c hF => ?_) (fun c hF => ?_)
    · exact g_sub [0] rfl (wfX6_work_j101 C hRf hRl a0 S hF)
    · refine g_aload_n C 0 dX6_work_79 rfl ?_
      refine g_getI C dX6_work_80 fd_47 (Or.inl q2032) (Or.inl rfl) hF (fun x2 hF => ?_)
      refine g_aload_n C 0 dX6_work_83 rfl ?_
      refine g_getI C dX6_work_84 fd_46 (Or.inl q2030) (Or.inl rfl) hF (fun x3 hF => ?_)
      refine g_icmp_ge C 101 dX6_work_87 rfl hF (fun c hF => ?_) (fun c hF => ?_)
      · exact g_sub [0] rfl (wfX6_work_j101 C hRf hRl a0 S hF)
      · refine g_aload_n C 0 dX6_work_90 rfl ?_
        obtain ⟨x4, S5, h, hF⟩ := gB_some hF
        obtain ⟨hi, h⟩ := gV_some h
        refine g_after (g_runV (n := 0) C dX6_work_91 rfl hi (kX6_readsStep C.2.2.2.2.2.2.2.2.2.2.2.1 20 a0 S _ _ h) (lw_V q2299 q2301 qs67 q124 q2302) (by decide +kernel) ⟨by rw [hRf]; exact Nat.le_of_ble_eq_true rfl, by rw [hRl]; exact Nat.le_of_ble_eq_true rfl⟩ rfl rfl (gle gc_0 (by decide))) ?_
        refine g_aload_n C 0 dX6_work_94 rfl ?_
        obtain ⟨x6, S7, h, hF⟩ := gB_some hF
        obtain ⟨hi, h⟩ := gV_some h
        refine g_after (g_runV (n := 0) C dX6_work_95 rfl hi (mX6_blanks C.2.2.2.2.2.2.2.2.2.2.2.1 a0 S5 _ _ h) (lw_V q2191 q2193 qs48 q124 q2194) (by decide +kernel) ⟨by rw [hRf]; exact Nat.le_of_ble_eq_true rfl, by rw [hRl]; exact Nat.le_of_ble_eq_true rfl⟩ rfl rfl (gle gc_0 (by decide))) ?_
        refine g_goto C 72 dX6_work_98 rfl ?_
        exact g_sub [0] rfl (hih a0 S7 hF)
theorem wfX6_work_j30 {r : Int32} {S1 : gS} (C : gCx p l R s m args meth c D K RX6 cX6_work 2 (Option.some Jvm.ClassFile.FieldType.int) [] "work" u0) (hRf : R.frames = 201) (hRl : R.locals = 6164) : ∀ (a0 : Option Nat) (a1 : Int32) (t0 : Int32) (t1 : Option Nat) (S : gS), fX6_work_j30 a0 a1 t0 t1 S = some (r, S1) → gW p l e R s m args below meth c D K 2 u0 (gEnd below args s D K u0 (.inl (some (.int r))) S1) S 30 [(0, va_rf a0), (1, .int a1)] [.int t0, va_rf t1] := by
  intro a0 a1 t0 t1 S hF
  unfold fX6_work_j30 at hF
  refine g_iconst (v := (1 : Int32)) C dX6_work_30 rfl ?_
  refine g_iconst (v := (1 : Int32)) C dX6_work_31 rfl ?_
  obtain ⟨x1, S2, h, hF⟩ := gB_some hF
  obtain ⟨hi, h⟩ := gV_some h
  refine g_after (g_runV (n := 3) C dX6_work_32 rfl hi (mX6_bad C.2.2.2.2.2.2.2.2.2.2.2.1 t1 t0 (1 : Int32) (1 : Int32) S _ _ h) (lw_V q2183 q2185 qs46 q124 q2186) (by decide +kernel) ⟨by rw [hRf]; exact Nat.le_of_ble_eq_true rfl, by rw [hRl]; exact Nat.le_of_ble_eq_true rfl⟩ rfl rfl (gle gc_0 (by decide))) ?_
  refine g_if_eq C 40 dX6_work_35 rfl hF (fun c hF => ?_) (fun c hF => ?_)
  · refine g_aload_n C 0 dX6_work_40 rfl ?_
    refine g_getI C dX6_work_41 fd_25 (Or.inl q2062) (Or.inl rfl) hF (fun x3 hF => ?_)
    refine g_bipush (v := (16 : Int32)) C dX6_work_44 rfl ?_
    refine g_icmp_ne C 62 dX6_work_46 rfl hF (fun c hF => ?_) (fun c hF => ?_)
    · refine g_aload_n C 0 dX6_work_62 rfl ?_
      refine g_iload_n C 1 dX6_work_63 rfl ?_
      obtain ⟨x4, S5, h, hF⟩ := gB_some hF
      obtain ⟨hi, h⟩ := gV_some h
      refine g_after (g_runV (n := 1) C dX6_work_64 rfl hi (mX6_starts C.2.2.2.2.2.2.2.2.2.2.2.1 a0 a1 S2 _ _ h) (lw_V q2187 q2189 qs47 q124 q2190) (by decide +kernel) ⟨by rw [hRf]; exact Nat.le_of_ble_eq_true rfl, by rw [hRl]; exact Nat.le_of_ble_eq_true rfl⟩ rfl rfl (gle gc_0 (by decide))) ?_
      refine g_aload_n C 0 dX6_work_67 rfl ?_
      refine g_iconst (v := (0 : Int32)) C dX6_work_68 rfl ?_
      refine g_put C dX6_work_69 fd_53 (Or.inl q2056) (Or.inl rfl) pf_0 rfl rfl hF (fun S6 hF => ?_)
      exact g_sub [0] rfl (wfX6_work_l72 C hRf hRl gFU a0 S6 hF)
    · refine g_aload_n C 0 dX6_work_49 rfl ?_
      refine g_iconst (v := (0 : Int32)) C dX6_work_50 rfl ?_
      refine g_put C dX6_work_51 fd_45 (Or.inl q2029) (Or.inl rfl) pf_0 rfl rfl hF (fun S7 hF => ?_)
      refine g_aload_n C 0 dX6_work_54 rfl ?_
      refine g_iconst (v := (-1 : Int32)) C dX6_work_55 rfl ?_
      refine g_put C dX6_work_56 fd_28 (Or.inl q2031) (Or.inl rfl) pf_0 rfl rfl hF (fun S8 hF => ?_)
      refine g_bipush (v := (-20 : Int32)) C dX6_work_59 rfl ?_
      cases hF
      exact g_iret C dX6_work_61 rfl rfl
  · refine g_iconst (v := (0 : Int32)) C dX6_work_38 rfl ?_
    cases hF
    exact g_iret C dX6_work_39 rfl rfl
theorem wfX6_work_j25 {r : Int32} {S1 : gS} (C : gCx p l R s m args meth c D K RX6 cX6_work 2 (Option.some Jvm.ClassFile.FieldType.int) [] "work" u0) (hRf : R.frames = 201) (hRl : R.locals = 6164) : ∀ (a0 : Option Nat) (a1 : Int32) (t0 : Option Nat) (S : gS), fX6_work_j25 a0 a1 t0 S = some (r, S1) → gW p l e R s m args below meth c D K 2 u0 (gEnd below args s D K u0 (.inl (some (.int r))) S1) S 25 [(0, va_rf a0), (1, .int a1)] [va_rf t0] := by
  intro a0 a1 t0 S hF
  unfold fX6_work_j25 at hF
  refine g_iconst (v := (1 : Int32)) C dX6_work_25 rfl ?_
  refine g_goto C 30 dX6_work_26 rfl ?_
  exact g_sub [0, 1] rfl (wfX6_work_j30 C hRf hRl a0 a1 (1 : Int32) t0 S hF)
theorem mX6_work {l : Launch} {D : gD} {K : gK} (hl : l.stackTraces = false) : ∀ (p0 : Option Nat) (p1 : Int32) (S : gS) (r : Int32) (S1 : gS), fX6_work p0 p1 S = some (r, S1) → gMet l D K yX6_work (ws_ yX6_work cX6_work 2 (Option.some Jvm.ClassFile.FieldType.int)) 201 6164 [va_rf p0, .int p1] S (.inl (some (.int r))) S1 := by
  intro p0 p1 S r S1 hF
  unfold fX6_work at hF
  refine gMet.of hl (by decide +kernel) rfl (gle (lgs_r (lgs_i lgs_0)) (by decide)) (fun p e s m below meth c R hRf hRl C _ => ?_)
  generalize hargs : ([va_rf p0, .int p1] : List Value).toArray = args at C ⊢
  generalize hu0 : S.2.2.1 = u0 at C ⊢
  rw [show lv_args 0 [va_rf p0, .int p1] = [(0, va_rf p0), (1, .int p1)] from (lva_r rfl (lva_i rfl lva_0))]
  refine g_aload_n C 0 dX6_work_0 rfl ?_
  refine g_iconst (v := (0 : Int32)) C dX6_work_1 rfl ?_
  refine g_put C dX6_work_2 fd_44 (Or.inl q2028) (Or.inl rfl) pf_0 rfl rfl hF (fun S1 hF => ?_)
  refine g_aload_n C 0 dX6_work_5 rfl ?_
  refine g_iload_n C 1 dX6_work_6 rfl ?_
  refine g_iconst (v := (0 : Int32)) C dX6_work_7 rfl ?_
  refine g_aload_n C 0 dX6_work_8 rfl ?_
  refine g_getI C dX6_work_9 fd_45 (Or.inl q2029) (Or.inl rfl) hF (fun x2 hF => ?_)
  refine g_after (g_runS (n := 3) C dX6_work_12 (mX6_in C.2.2.2.2.2.2.2.2.2.2.2.1 p1 (0 : Int32) x2 S1 _ rfl) (lw_S q2180 q2181 q124 q2182) (by decide +kernel) ⟨by rw [hRf]; exact Nat.le_of_ble_eq_true rfl, by rw [hRl]; exact Nat.le_of_ble_eq_true rfl⟩ rfl rfl (gle (gc_r gc_0) (by decide))) ?_
  refine g_if_eq C 25 dX6_work_15 rfl hF (fun c hF => ?_) (fun c hF => ?_)
  · exact g_sub [0, 1] rfl (wfX6_work_j25 C hRf hRl p0 p1 p0 S1 hF)
  · refine g_iload_n C 1 dX6_work_18 rfl ?_
    refine g_sipush (v := (150 : Int32)) C dX6_work_19 rfl ?_
    refine g_icmp_le C 29 dX6_work_22 rfl hF (fun c hF => ?_) (fun c hF => ?_)
    · refine g_iconst (v := (0 : Int32)) C dX6_work_29 rfl ?_
      exact g_sub [0, 1] rfl (wfX6_work_j30 C hRf hRl p0 p1 (0 : Int32) p0 S1 hF)
    · exact g_sub [0, 1] rfl (wfX6_work_j25 C hRf hRl p0 p1 p0 S1 hF)
/-! VowelChoirModel.undo()I -/
def fX6_undo (p0 : Option Nat) (S : gS) : Option (Int32 × gS) :=
  (oPut [3] 0 p0 (.int ((0 : Int32))) S).bind fun S1 =>
  (oGetI [3] 34 p0 S1).bind fun x2 =>
  (if x2 = 0 then
  some ((-1 : Int32), S1)
  else
  (oGetI [3] 34 p0 S1).bind fun x3 =>
  (oPut [3] 34 p0 (.int (x3 - (1 : Int32))) S1).bind fun S4 =>
  (oGetR [3] 31 p0 S4).bind fun x5 =>
  (oGetI [3] 34 p0 S4).bind fun x6 =>
  (oLdR 5 x5 x6 S4).bind fun x7 =>
  (oGetR [3] 29 p0 S4).bind fun x8 =>
  gB (fX6_copies x7 x8 S4) fun x9 S10 =>
  (oPut [3] 35 p0 (.int ((0 : Int32))) S10).bind fun S11 =>
  (oGetI [3] 34 p0 S11).bind fun x12 =>
  some (x12, S11))
theorem mX6_undo {l : Launch} {D : gD} {K : gK} (hl : l.stackTraces = false) : ∀ (p0 : Option Nat) (S : gS) (r : Int32) (S1 : gS), fX6_undo p0 S = some (r, S1) → gMet l D K yX6_undo (ws_ yX6_undo cX6_undo 1 (Option.some Jvm.ClassFile.FieldType.int)) 2 122 [va_rf p0] S (.inl (some (.int r))) S1 := by
  intro p0 S r S1 hF
  unfold fX6_undo at hF
  refine gMet.of hl (by decide +kernel) rfl (gle (lgs_r lgs_0) (by decide)) (fun p e s m below meth c R hRf hRl C _ => ?_)
  generalize hargs : ([va_rf p0] : List Value).toArray = args at C ⊢
  generalize hu0 : S.2.2.1 = u0 at C ⊢
  rw [show lv_args 0 [va_rf p0] = [(0, va_rf p0)] from (lva_r rfl lva_0)]
  refine g_aload_n C 0 dX6_undo_0 rfl ?_
  refine g_iconst (v := (0 : Int32)) C dX6_undo_1 rfl ?_
  refine g_put C dX6_undo_2 fd_44 (Or.inl q2028) (Or.inl rfl) pf_0 rfl rfl hF (fun S1 hF => ?_)
  refine g_aload_n C 0 dX6_undo_5 rfl ?_
  refine g_getI C dX6_undo_6 fd_25 (Or.inl q2062) (Or.inl rfl) hF (fun x2 hF => ?_)
  refine g_if_ne C 14 dX6_undo_9 rfl hF (fun c hF => ?_) (fun c hF => ?_)
  · refine g_aload_n C 0 dX6_undo_14 rfl ?_
    refine g_dup C dX6_undo_15 (g_cr _) ?_
    refine g_getI C dX6_undo_16 fd_25 (Or.inl q2062) (Or.inl rfl) hF (fun x3 hF => ?_)
    refine g_iconst (v := (1 : Int32)) C dX6_undo_19 rfl ?_
    refine g_isub C dX6_undo_20 ?_
    refine g_put C dX6_undo_21 fd_25 (Or.inl q2062) (Or.inl rfl) pf_0 rfl rfl hF (fun S4 hF => ?_)
    refine g_aload_n C 0 dX6_undo_24 rfl ?_
    refine g_getR C dX6_undo_25 fd_39 (Or.inl q2059) (Or.inl rfl) hF (fun x5 hF => ?_)
    refine g_aload_n C 0 dX6_undo_28 rfl ?_
    refine g_getI C dX6_undo_29 fd_25 (Or.inl q2062) (Or.inl rfl) hF (fun x6 hF => ?_)
    refine g_aald C (kd := 5) rfl dX6_undo_32 hF (fun x7 hF => ?_)
    refine g_aload_n C 0 dX6_undo_33 rfl ?_
    refine g_getR C dX6_undo_34 fd_22 (Or.inl q2057) (Or.inl rfl) hF (fun x8 hF => ?_)
    obtain ⟨x9, S10, h, hF⟩ := gB_some hF
    refine g_after (g_runS (n := 2) C dX6_undo_37 (mX6_copies C.2.2.2.2.2.2.2.2.2.2.2.1 x7 x8 S4 _ _ h) (lw_S q2307 q2308 q124 q2309) (by decide +kernel) ⟨by rw [hRf]; exact Nat.le_of_ble_eq_true rfl, by rw [hRl]; exact Nat.le_of_ble_eq_true rfl⟩ rfl rfl (gle gc_0 (by decide))) ?_
    refine g_aload_n C 0 dX6_undo_40 rfl ?_
    refine g_iconst (v := (0 : Int32)) C dX6_undo_41 rfl ?_
    refine g_put C dX6_undo_42 fd_26 (Or.inl q2063) (Or.inl rfl) pf_0 rfl rfl hF (fun S11 hF => ?_)
    refine g_aload_n C 0 dX6_undo_45 rfl ?_
    refine g_getI C dX6_undo_46 fd_25 (Or.inl q2062) (Or.inl rfl) hF (fun x12 hF => ?_)
    cases hF
    exact g_iret C dX6_undo_49 rfl rfl
  · refine g_iconst (v := (-1 : Int32)) C dX6_undo_12 rfl ?_
    cases hF
    exact g_iret C dX6_undo_13 rfl rfl
/-! VowelChoirModel.hoarse([I)I -/
def fX6_hoarse_i4 (ih : (Option Nat) → (Option Nat) → (Int32) → (Int32) → gS → Option Int32) (a0 : Option Nat) (a1 : Option Nat) (a2 : Int32) (a3 : Int32) (S : gS) : Option Int32 :=
  (oGetR [3] 12 a0 S).bind fun x1 =>
  (oLdI 0 x1 (0 : Int32) S).bind fun x2 =>
  (if x2 ≤ a3 then
  some a2
  else
  (oLdI 0 a1 ((7 : Int32) + a3) S).bind fun x3 =>
  ih a0 a1 (a2 ||| (x3 <<< (a3 &&& 31))) (a3 + (1 : Int32)) S)
def fX6_hoarse_l4 : Nat → (Option Nat) → (Option Nat) → (Int32) → (Int32) → gS → Option Int32
  | 0 => fun _ _ _ _ _ => none
  | n + 1 => fun a0 a1 a2 a3 S => fX6_hoarse_i4 (fX6_hoarse_l4 n) a0 a1 a2 a3 S
def fX6_hoarse (p0 : Option Nat) (p1 : Option Nat) (S : gS) : Option Int32 :=
  fX6_hoarse_l4 gFU p0 p1 (0 : Int32) (0 : Int32) S
theorem wfX6_hoarse_l4 {r : Int32} (C : gCx p l R s m args meth c D K RX6 cX6_hoarse 4 (Option.some Jvm.ClassFile.FieldType.int) [] "hoarse" u0) (hRf : R.frames = 1) (hRl : R.locals = 100) : ∀ (n : Nat) (a0 : Option Nat) (a1 : Option Nat) (a2 : Int32) (a3 : Int32) (S : gS), fX6_hoarse_l4 n a0 a1 a2 a3 S = some r → gW p l e R s m args below meth c D K 4 u0 (gEnd below args s D K u0 (.inl (some (.int r))) S) S 4 [(0, va_rf a0), (1, va_rf a1), (2, .int a2), (3, .int a3)] [] := by
  intro n
  induction n with
  | zero => intro a0 a1 a2 a3 S hF; cases hF
  | succ n hih =>
    intro a0 a1 a2 a3 S hF
    have hF : fX6_hoarse_i4 (fX6_hoarse_l4 n) a0 a1 a2 a3 S = some r := hF
    revert hF hih
    generalize fX6_hoarse_l4 n = ih
    intro hih hF
    unfold fX6_hoarse_i4 at hF
    refine g_iload_n C 3 dX6_hoarse_4 rfl ?_
    refine g_aload_n C 0 dX6_hoarse_5 rfl ?_
    refine g_getR C dX6_hoarse_6 fd_15 (Or.inl q2040) (Or.inl rfl) hF (fun x1 hF => ?_)
    refine g_iconst (v := (0 : Int32)) C dX6_hoarse_9 rfl ?_
    refine g_iald C dX6_hoarse_10 hF (fun x2 hF => ?_)
    refine g_icmp_ge C 31 dX6_hoarse_11 rfl hF (fun c hF => ?_) (fun c hF => ?_)
    · refine g_iload_n C 2 dX6_hoarse_31 rfl ?_
      cases hF
      exact g_iret C dX6_hoarse_32 rfl rfl
    · refine g_iload_n C 2 dX6_hoarse_14 rfl ?_
      refine g_aload_n C 1 dX6_hoarse_15 rfl ?_
      refine g_bipush (v := (7 : Int32)) C dX6_hoarse_16 rfl ?_
      refine g_iload_n C 3 dX6_hoarse_18 rfl ?_
      refine g_iadd C dX6_hoarse_19 ?_
      refine g_iald C dX6_hoarse_20 hF (fun x3 hF => ?_)
      refine g_iload_n C 3 dX6_hoarse_21 rfl ?_
      refine g_ishl C dX6_hoarse_22 ?_
      refine g_ior C dX6_hoarse_23 ?_
      refine g_istore_n C dX6_hoarse_24 (by decide) (gcons rfl (gfk rfl rfl (gfr rfl (gfd rfl (gfk rfl rfl gf0))))) ?_
      refine g_iinc (v := (1 : Int32)) C 3 dX6_hoarse_25 rfl rfl (by decide) rfl ?_
      refine g_goto C 4 dX6_hoarse_28 rfl ?_
      exact g_sub [2, 3, 1, 0] rfl (hih a0 a1 (a2 ||| (x3 <<< (a3 &&& 31))) (a3 + (1 : Int32)) S hF)
theorem mX6_hoarse {l : Launch} {D : gD} {K : gK} (hl : l.stackTraces = false) : ∀ (p0 : Option Nat) (p1 : Option Nat) (S : gS) (r : Int32), fX6_hoarse p0 p1 S = some r → gMet l D K yX6_hoarse (ws_ yX6_hoarse cX6_hoarse 4 (Option.some Jvm.ClassFile.FieldType.int)) 1 100 [va_rf p0, va_rf p1] S (.inl (some (.int r))) S := by
  intro p0 p1 S r hF
  unfold fX6_hoarse at hF
  refine gMet.of hl (by decide +kernel) rfl (gle (lgs_r (lgs_r lgs_0)) (by decide)) (fun p e s m below meth c R hRf hRl C _ => ?_)
  generalize hargs : ([va_rf p0, va_rf p1] : List Value).toArray = args at C ⊢
  generalize hu0 : S.2.2.1 = u0 at C ⊢
  rw [show lv_args 0 [va_rf p0, va_rf p1] = [(0, va_rf p0), (1, va_rf p1)] from (lva_r rfl (lva_r rfl lva_0))]
  refine g_iconst (v := (0 : Int32)) C dX6_hoarse_0 rfl ?_
  refine g_istore_n C dX6_hoarse_1 (by decide) (gcons rfl (gfk rfl rfl (gfr rfl gf0))) ?_
  refine g_iconst (v := (0 : Int32)) C dX6_hoarse_2 rfl ?_
  refine g_istore_n C dX6_hoarse_3 (by decide) rfl ?_
  exact g_sub [2, 3, 1, 0] rfl (wfX6_hoarse_l4 C hRf hRl gFU p0 p1 (0 : Int32) (0 : Int32) S hF)
/-! VowelChoirModel.all([II)I -/
def fX6_all_i5 (ih : (Option Nat) → (Option Nat) → (Int32) → (Int32) → (Int32) → gS → Option Int32) (a0 : Option Nat) (a1 : Option Nat) (a2 : Int32) (a3 : Int32) (a4 : Int32) (S : gS) : Option Int32 :=
  (oGetR [3] 12 a0 S).bind fun x1 =>
  (oLdI 0 x1 (0 : Int32) S).bind fun x2 =>
  (if x2 ≤ a4 then
  some a3
  else
  (oLdI 0 a1 (a2 + a4) S).bind fun x3 =>
  ih a0 a1 a2 (a3 + x3) (a4 + (1 : Int32)) S)
def fX6_all_l5 : Nat → (Option Nat) → (Option Nat) → (Int32) → (Int32) → (Int32) → gS → Option Int32
  | 0 => fun _ _ _ _ _ _ => none
  | n + 1 => fun a0 a1 a2 a3 a4 S => fX6_all_i5 (fX6_all_l5 n) a0 a1 a2 a3 a4 S
def fX6_all (p0 : Option Nat) (p1 : Option Nat) (p2 : Int32) (S : gS) : Option Int32 :=
  fX6_all_l5 gFU p0 p1 p2 (0 : Int32) (0 : Int32) S
theorem wfX6_all_l5 {r : Int32} (C : gCx p l R s m args meth c D K RX6 cX6_all 5 (Option.some Jvm.ClassFile.FieldType.int) [] "all" u0) (hRf : R.frames = 1) (hRl : R.locals = 100) : ∀ (n : Nat) (a0 : Option Nat) (a1 : Option Nat) (a2 : Int32) (a3 : Int32) (a4 : Int32) (S : gS), fX6_all_l5 n a0 a1 a2 a3 a4 S = some r → gW p l e R s m args below meth c D K 5 u0 (gEnd below args s D K u0 (.inl (some (.int r))) S) S 5 [(0, va_rf a0), (1, va_rf a1), (2, .int a2), (3, .int a3), (4, .int a4)] [] := by
  intro n
  induction n with
  | zero => intro a0 a1 a2 a3 a4 S hF; cases hF
  | succ n hih =>
    intro a0 a1 a2 a3 a4 S hF
    have hF : fX6_all_i5 (fX6_all_l5 n) a0 a1 a2 a3 a4 S = some r := hF
    revert hF hih
    generalize fX6_all_l5 n = ih
    intro hih hF
    unfold fX6_all_i5 at hF
    refine g_iload C 4 dX6_all_5 rfl ?_
    refine g_aload_n C 0 dX6_all_7 rfl ?_
    refine g_getR C dX6_all_8 fd_15 (Or.inl q2040) (Or.inl rfl) hF (fun x1 hF => ?_)
    refine g_iconst (v := (0 : Int32)) C dX6_all_11 rfl ?_
    refine g_iald C dX6_all_12 hF (fun x2 hF => ?_)
    refine g_icmp_ge C 31 dX6_all_13 rfl hF (fun c hF => ?_) (fun c hF => ?_)
    · refine g_iload_n C 3 dX6_all_31 rfl ?_
      cases hF
      exact g_iret C dX6_all_32 rfl rfl
    · refine g_iload_n C 3 dX6_all_16 rfl ?_
      refine g_aload_n C 1 dX6_all_17 rfl ?_
      refine g_iload_n C 2 dX6_all_18 rfl ?_
      refine g_iload C 4 dX6_all_19 rfl ?_
      refine g_iadd C dX6_all_21 ?_
      refine g_iald C dX6_all_22 hF (fun x3 hF => ?_)
      refine g_iadd C dX6_all_23 ?_
      refine g_istore_n C dX6_all_24 (by decide) rfl ?_
      refine g_iinc (v := (1 : Int32)) C 4 dX6_all_25 rfl rfl (by decide) rfl ?_
      refine g_goto C 5 dX6_all_28 rfl ?_
      exact g_sub [2, 3, 4, 1, 0] rfl (hih a0 a1 a2 (a3 + x3) (a4 + (1 : Int32)) S hF)
theorem mX6_all {l : Launch} {D : gD} {K : gK} (hl : l.stackTraces = false) : ∀ (p0 : Option Nat) (p1 : Option Nat) (p2 : Int32) (S : gS) (r : Int32), fX6_all p0 p1 p2 S = some r → gMet l D K yX6_all (ws_ yX6_all cX6_all 5 (Option.some Jvm.ClassFile.FieldType.int)) 1 100 [va_rf p0, va_rf p1, .int p2] S (.inl (some (.int r))) S := by
  intro p0 p1 p2 S r hF
  unfold fX6_all at hF
  refine gMet.of hl (by decide +kernel) rfl (gle (lgs_r (lgs_r (lgs_i lgs_0))) (by decide)) (fun p e s m below meth c R hRf hRl C _ => ?_)
  generalize hargs : ([va_rf p0, va_rf p1, .int p2] : List Value).toArray = args at C ⊢
  generalize hu0 : S.2.2.1 = u0 at C ⊢
  rw [show lv_args 0 [va_rf p0, va_rf p1, .int p2] = [(0, va_rf p0), (1, va_rf p1), (2, .int p2)] from (lva_r rfl (lva_r rfl (lva_i rfl lva_0)))]
  refine g_iconst (v := (0 : Int32)) C dX6_all_0 rfl ?_
  refine g_istore_n C dX6_all_1 (by decide) rfl ?_
  refine g_iconst (v := (0 : Int32)) C dX6_all_2 rfl ?_
  refine g_istore C dX6_all_3 (by decide) rfl ?_
  exact g_sub [2, 3, 4, 1, 0] rfl (wfX6_all_l5 C hRf hRl gFU p0 p1 p2 (0 : Int32) (0 : Int32) S hF)
/-! VowelChoirModel.told(I)I -/
def fX6_told_i35 (ih : (Option Nat) → (Int32) → (Int32) → (Int32) → gS → Option (Int32 × gS)) (a0 : Option Nat) (a1 : Int32) (a2 : Int32) (a3 : Int32) (S : gS) : Option (Int32 × gS) :=
  (oGetR [3] 12 a0 S).bind fun x1 =>
  (oLdI 0 x1 (1 : Int32) S).bind fun x2 =>
  (if x2 ≤ a3 then
  (if a1 = (0 : Int32) then
  (oGetR [3] 12 a0 S).bind fun x3 =>
  (oLdI 0 x3 a1 S).bind fun x4 =>
  some (x4, S)
  else
  if a1 = (1 : Int32) then
  (oGetR [3] 12 a0 S).bind fun x5 =>
  (oLdI 0 x5 a1 S).bind fun x6 =>
  some (x6, S)
  else
  if a1 = (2 : Int32) then
  (oGetR [3] 12 a0 S).bind fun x7 =>
  (oLdI 0 x7 a1 S).bind fun x8 =>
  some (x8, S)
  else
  if a1 = (3 : Int32) then
  (oGetR [3] 29 a0 S).bind fun x9 =>
  (oLdI 0 x9 (56 : Int32) S).bind fun x10 =>
  some (x10, S)
  else
  if a1 = (4 : Int32) then
  (oGetR [3] 29 a0 S).bind fun x11 =>
  (gV [3] a0 S (fX6_hoarse a0 x11 S)).bind fun x12 =>
  some (x12, S)
  else
  if a1 = (5 : Int32) then
  (oGetR [3] 29 a0 S).bind fun x13 =>
  (oLdI 0 x13 (55 : Int32) S).bind fun x14 =>
  some (x14, S)
  else
  if a1 = (6 : Int32) then
  (oGetR [3] 29 a0 S).bind fun x15 =>
  (gV [3] a0 S (fX6_all a0 x15 (14 : Int32) S)).bind fun x16 =>
  some (x16, S)
  else
  if a1 = (7 : Int32) then
  (oGetR [3] 29 a0 S).bind fun x17 =>
  (gV [3] a0 S (fX6_all a0 x17 (21 : Int32) S)).bind fun x18 =>
  some (x18, S)
  else
  if a1 = (8 : Int32) then
  (oGetR [3] 29 a0 S).bind fun x19 =>
  (gV [3] a0 S (fX6_all a0 x19 (0 : Int32) S)).bind fun x20 =>
  some (x20, S)
  else
  if a1 = (9 : Int32) then
  (oGetI [3] 33 a0 S).bind fun x21 =>
  some (x21, S)
  else
  if a1 = (10 : Int32) then
  (oGetI [3] 35 a0 S).bind fun x22 =>
  some (x22, S)
  else
  some (a2, S))
  else
  (oGetR [3] 29 a0 S).bind fun x23 =>
  (oLdI 0 x23 ((35 : Int32) + a3) S).bind fun x24 =>
  (oGetR [3] 16 a0 S).bind fun x25 =>
  (oLdR 5 x25 a3 S).bind fun x26 =>
  (oLdI 0 x26 (0 : Int32) S).bind fun x27 =>
  (if x24 = x27 then
  ih a0 a1 (a2 ||| (0 : Int32)) (a3 + (1 : Int32)) S
  else
  ih a0 a1 (a2 ||| ((1 : Int32) <<< (a3 &&& 31))) (a3 + (1 : Int32)) S))
def fX6_told_l35 : Nat → (Option Nat) → (Int32) → (Int32) → (Int32) → gS → Option (Int32 × gS)
  | 0 => fun _ _ _ _ _ => none
  | n + 1 => fun a0 a1 a2 a3 S => fX6_told_i35 (fX6_told_l35 n) a0 a1 a2 a3 S
def fX6_told_j21 (a0 : Option Nat) (a1 : Int32) (t0 : Int32) (t1 : Option Nat) (S : gS) : Option (Int32 × gS) :=
  gB (gV [3] t1 S (fX6_bad t1 t0 (1 : Int32) (1 : Int32) S)) fun x1 S2 =>
  (if x1 = 0 then
  fX6_told_l35 gFU a0 a1 (0 : Int32) (0 : Int32) S2
  else
  some ((0 : Int32), S2))
def fX6_told (p0 : Option Nat) (p1 : Int32) (S : gS) : Option (Int32 × gS) :=
  (oPut [3] 0 p0 (.int ((0 : Int32))) S).bind fun S1 =>
  (if (fX6_in p1 (0 : Int32) (11 : Int32)) = 0 then
  fX6_told_j21 p0 p1 (1 : Int32) p0 S1
  else
  fX6_told_j21 p0 p1 (0 : Int32) p0 S1)
theorem wfX6_told_l35 {r : Int32} {S1 : gS} (C : gCx p l R s m args meth c D K RX6 cX6_told 4 (Option.some Jvm.ClassFile.FieldType.int) [] "told" u0) (hRf : R.frames = 2) (hRl : R.locals = 124) : ∀ (n : Nat) (a0 : Option Nat) (a1 : Int32) (a2 : Int32) (a3 : Int32) (S : gS), fX6_told_l35 n a0 a1 a2 a3 S = some (r, S1) → gW p l e R s m args below meth c D K 4 u0 (gEnd below args s D K u0 (.inl (some (.int r))) S1) S 35 [(0, va_rf a0), (1, .int a1), (2, .int a2), (3, .int a3)] [] := by
  intro n
  induction n with
  | zero => intro a0 a1 a2 a3 S hF; cases hF
  | succ n hih =>
    intro a0 a1 a2 a3 S hF
    have hF : fX6_told_i35 (fX6_told_l35 n) a0 a1 a2 a3 S = some (r, S1) := hF
    revert hF hih
    generalize fX6_told_l35 n = ih
    intro hih hF
    unfold fX6_told_i35 at hF
    refine g_iload_n C 3 dX6_told_35 rfl ?_
    refine g_aload_n C 0 dX6_told_36 rfl ?_
    refine g_getR C dX6_told_37 fd_15 (Or.inl q2040) (Or.inl rfl) hF (fun x1 hF => ?_)
    refine g_iconst (v := (1 : Int32)) C dX6_told_40 rfl ?_
    refine g_iald C dX6_told_41 hF (fun x2 hF => ?_)
    refine g_icmp_ge C 81 dX6_told_42 rfl hF (fun c hF => ?_) (fun c hF => ?_)
    · refine g_iload_n C 1 dX6_told_81 rfl ?_
      refine g_case hF (fun c0 hF => ?_) (fun c0 hF => ?_)
      · refine g_tableIn C (0) (58) 140 dX6_told_82 (by rw [c0]; rfl) (by decide) (by decide) rfl rfl ?_
        refine g_aload_n C 0 dX6_told_140 rfl ?_
        refine g_getR C dX6_told_141 fd_15 (Or.inl q2040) (Or.inl rfl) hF (fun x3 hF => ?_)
        refine g_iload_n C 1 dX6_told_144 rfl ?_
        refine g_iald C dX6_told_145 hF (fun x4 hF => ?_)
        cases hF
        exact g_iret C dX6_told_146 rfl rfl
      refine g_case hF (fun c1 hF => ?_) (fun c1 hF => ?_)
      · refine g_tableIn C (1) (58) 140 dX6_told_82 (by rw [c1]; rfl) (by decide) (by decide) rfl rfl ?_
        refine g_aload_n C 0 dX6_told_140 rfl ?_
        refine g_getR C dX6_told_141 fd_15 (Or.inl q2040) (Or.inl rfl) hF (fun x5 hF => ?_)
        refine g_iload_n C 1 dX6_told_144 rfl ?_
        refine g_iald C dX6_told_145 hF (fun x6 hF => ?_)
        cases hF
        exact g_iret C dX6_told_146 rfl rfl
      refine g_case hF (fun c2 hF => ?_) (fun c2 hF => ?_)
      · refine g_tableIn C (2) (58) 140 dX6_told_82 (by rw [c2]; rfl) (by decide) (by decide) rfl rfl ?_
        refine g_aload_n C 0 dX6_told_140 rfl ?_
        refine g_getR C dX6_told_141 fd_15 (Or.inl q2040) (Or.inl rfl) hF (fun x7 hF => ?_)
        refine g_iload_n C 1 dX6_told_144 rfl ?_
        refine g_iald C dX6_told_145 hF (fun x8 hF => ?_)
        cases hF
        exact g_iret C dX6_told_146 rfl rfl
      refine g_case hF (fun c3 hF => ?_) (fun c3 hF => ?_)
      · refine g_tableIn C (3) (65) 147 dX6_told_82 (by rw [c3]; rfl) (by decide) (by decide) rfl rfl ?_
        refine g_aload_n C 0 dX6_told_147 rfl ?_
        refine g_getR C dX6_told_148 fd_22 (Or.inl q2057) (Or.inl rfl) hF (fun x9 hF => ?_)
        refine g_bipush (v := (56 : Int32)) C dX6_told_151 rfl ?_
        refine g_iald C dX6_told_153 hF (fun x10 hF => ?_)
        cases hF
        exact g_iret C dX6_told_154 rfl rfl
      refine g_case hF (fun c4 hF => ?_) (fun c4 hF => ?_)
      · refine g_tableIn C (4) (73) 155 dX6_told_82 (by rw [c4]; rfl) (by decide) (by decide) rfl rfl ?_
        refine g_aload_n C 0 dX6_told_155 rfl ?_
        refine g_aload_n C 0 dX6_told_156 rfl ?_
        refine g_getR C dX6_told_157 fd_22 (Or.inl q2057) (Or.inl rfl) hF (fun x11 hF => ?_)
        obtain ⟨x12, h, hF⟩ := oB hF
        obtain ⟨hi, h⟩ := gV_some h
        refine g_after (g_runV (n := 1) C dX6_told_160 rfl hi (mX6_hoarse C.2.2.2.2.2.2.2.2.2.2.2.1 a0 x11 S _ h) (lw_V q2374 q2376 qs80 q124 q2377) (by decide +kernel) ⟨by rw [hRf]; exact Nat.le_of_ble_eq_true rfl, by rw [hRl]; exact Nat.le_of_ble_eq_true rfl⟩ rfl rfl (gle gc_0 (by decide))) ?_
        cases hF
        exact g_iret C dX6_told_163 rfl rfl
      refine g_case hF (fun c5 hF => ?_) (fun c5 hF => ?_)
      · refine g_tableIn C (5) (82) 164 dX6_told_82 (by rw [c5]; rfl) (by decide) (by decide) rfl rfl ?_
        refine g_aload_n C 0 dX6_told_164 rfl ?_
        refine g_getR C dX6_told_165 fd_22 (Or.inl q2057) (Or.inl rfl) hF (fun x13 hF => ?_)
        refine g_bipush (v := (55 : Int32)) C dX6_told_168 rfl ?_
        refine g_iald C dX6_told_170 hF (fun x14 hF => ?_)
        cases hF
        exact g_iret C dX6_told_171 rfl rfl
      refine g_case hF (fun c6 hF => ?_) (fun c6 hF => ?_)
      · refine g_tableIn C (6) (90) 172 dX6_told_82 (by rw [c6]; rfl) (by decide) (by decide) rfl rfl ?_
        refine g_aload_n C 0 dX6_told_172 rfl ?_
        refine g_aload_n C 0 dX6_told_173 rfl ?_
        refine g_getR C dX6_told_174 fd_22 (Or.inl q2057) (Or.inl rfl) hF (fun x15 hF => ?_)
        refine g_bipush (v := (14 : Int32)) C dX6_told_177 rfl ?_
        obtain ⟨x16, h, hF⟩ := oB hF
        obtain ⟨hi, h⟩ := gV_some h
        refine g_after (g_runV (n := 2) C dX6_told_179 rfl hi (mX6_all C.2.2.2.2.2.2.2.2.2.2.2.1 a0 x15 (14 : Int32) S _ h) (lw_V q2378 q2380 qs81 q124 q2381) (by decide +kernel) ⟨by rw [hRf]; exact Nat.le_of_ble_eq_true rfl, by rw [hRl]; exact Nat.le_of_ble_eq_true rfl⟩ rfl rfl (gle gc_0 (by decide))) ?_
        cases hF
        exact g_iret C dX6_told_182 rfl rfl
      refine g_case hF (fun c7 hF => ?_) (fun c7 hF => ?_)
      · refine g_tableIn C (7) (101) 183 dX6_told_82 (by rw [c7]; rfl) (by decide) (by decide) rfl rfl ?_
        refine g_aload_n C 0 dX6_told_183 rfl ?_
        refine g_aload_n C 0 dX6_told_184 rfl ?_
        refine g_getR C dX6_told_185 fd_22 (Or.inl q2057) (Or.inl rfl) hF (fun x17 hF => ?_)
        refine g_bipush (v := (21 : Int32)) C dX6_told_188 rfl ?_
        obtain ⟨x18, h, hF⟩ := oB hF
        obtain ⟨hi, h⟩ := gV_some h
        refine g_after (g_runV (n := 2) C dX6_told_190 rfl hi (mX6_all C.2.2.2.2.2.2.2.2.2.2.2.1 a0 x17 (21 : Int32) S _ h) (lw_V q2378 q2380 qs81 q124 q2381) (by decide +kernel) ⟨by rw [hRf]; exact Nat.le_of_ble_eq_true rfl, by rw [hRl]; exact Nat.le_of_ble_eq_true rfl⟩ rfl rfl (gle gc_0 (by decide))) ?_
        cases hF
        exact g_iret C dX6_told_193 rfl rfl
      refine g_case hF (fun c8 hF => ?_) (fun c8 hF => ?_)
      · refine g_tableIn C (8) (112) 194 dX6_told_82 (by rw [c8]; rfl) (by decide) (by decide) rfl rfl ?_
        refine g_aload_n C 0 dX6_told_194 rfl ?_
        refine g_aload_n C 0 dX6_told_195 rfl ?_
        refine g_getR C dX6_told_196 fd_22 (Or.inl q2057) (Or.inl rfl) hF (fun x19 hF => ?_)
        refine g_iconst (v := (0 : Int32)) C dX6_told_199 rfl ?_
        obtain ⟨x20, h, hF⟩ := oB hF
        obtain ⟨hi, h⟩ := gV_some h
        refine g_after (g_runV (n := 2) C dX6_told_200 rfl hi (mX6_all C.2.2.2.2.2.2.2.2.2.2.2.1 a0 x19 (0 : Int32) S _ h) (lw_V q2378 q2380 qs81 q124 q2381) (by decide +kernel) ⟨by rw [hRf]; exact Nat.le_of_ble_eq_true rfl, by rw [hRl]; exact Nat.le_of_ble_eq_true rfl⟩ rfl rfl (gle gc_0 (by decide))) ?_
        cases hF
        exact g_iret C dX6_told_203 rfl rfl
      refine g_case hF (fun c9 hF => ?_) (fun c9 hF => ?_)
      · refine g_tableIn C (9) (122) 204 dX6_told_82 (by rw [c9]; rfl) (by decide) (by decide) rfl rfl ?_
        refine g_aload_n C 0 dX6_told_204 rfl ?_
        refine g_getI C dX6_told_205 fd_24 (Or.inl q2061) (Or.inl rfl) hF (fun x21 hF => ?_)
        cases hF
        exact g_iret C dX6_told_208 rfl rfl
      refine g_case hF (fun c10 hF => ?_) (fun c10 hF => ?_)
      · refine g_tableIn C (10) (127) 209 dX6_told_82 (by rw [c10]; rfl) (by decide) (by decide) rfl rfl ?_
        refine g_aload_n C 0 dX6_told_209 rfl ?_
        refine g_getI C dX6_told_210 fd_26 (Or.inl q2063) (Or.inl rfl) hF (fun x22 hF => ?_)
        cases hF
        exact g_iret C dX6_told_213 rfl rfl
      have hne := And.intro trivial trivial
      have n0 := lv_neT c0 (show ((0 : Int32)).toInt = 0 by decide)
      have n1 := lv_neT c1 (show ((1 : Int32)).toInt = 1 by decide)
      have n2 := lv_neT c2 (show ((2 : Int32)).toInt = 2 by decide)
      have n3 := lv_neT c3 (show ((3 : Int32)).toInt = 3 by decide)
      have n4 := lv_neT c4 (show ((4 : Int32)).toInt = 4 by decide)
      have n5 := lv_neT c5 (show ((5 : Int32)).toInt = 5 by decide)
      have n6 := lv_neT c6 (show ((6 : Int32)).toInt = 6 by decide)
      have n7 := lv_neT c7 (show ((7 : Int32)).toInt = 7 by decide)
      have n8 := lv_neT c8 (show ((8 : Int32)).toInt = 8 by decide)
      have n9 := lv_neT c9 (show ((9 : Int32)).toInt = 9 by decide)
      have n10 := lv_neT c10 (show ((10 : Int32)).toInt = 10 by decide)
      refine g_tableOut C 214 dX6_told_82 (by omega) rfl ?_
      refine g_iload_n C 2 dX6_told_214 rfl ?_
      cases hF
      exact g_iret C dX6_told_215 rfl rfl
    · refine g_iload_n C 2 dX6_told_45 rfl ?_
      refine g_aload_n C 0 dX6_told_46 rfl ?_
      refine g_getR C dX6_told_47 fd_22 (Or.inl q2057) (Or.inl rfl) hF (fun x23 hF => ?_)
      refine g_bipush (v := (35 : Int32)) C dX6_told_50 rfl ?_
      refine g_iload_n C 3 dX6_told_52 rfl ?_
      refine g_iadd C dX6_told_53 ?_
      refine g_iald C dX6_told_54 hF (fun x24 hF => ?_)
      refine g_aload_n C 0 dX6_told_55 rfl ?_
      refine g_getR C dX6_told_56 fd_19 (Or.inl q2044) (Or.inl rfl) hF (fun x25 hF => ?_)
      refine g_iload_n C 3 dX6_told_59 rfl ?_
      refine g_aald C (kd := 5) rfl dX6_told_60 hF (fun x26 hF => ?_)
      refine g_iconst (v := (0 : Int32)) C dX6_told_61 rfl ?_
      refine g_iald C dX6_told_62 hF (fun x27 hF => ?_)
      refine g_icmp_ne C 70 dX6_told_63 rfl hF (fun c hF => ?_) (fun c hF => ?_)
      · refine g_iconst (v := (1 : Int32)) C dX6_told_70 rfl ?_
        refine g_iload_n C 3 dX6_told_71 rfl ?_
        refine g_ishl C dX6_told_72 ?_
        refine g_ior C dX6_told_73 ?_
        refine g_istore_n C dX6_told_74 (by decide) rfl ?_
        refine g_iinc (v := (1 : Int32)) C 3 dX6_told_75 rfl rfl (by decide) rfl ?_
        refine g_goto C 35 dX6_told_78 rfl ?_
        exact g_sub [2, 3, 1, 0] rfl (hih a0 a1 (a2 ||| ((1 : Int32) <<< (a3 &&& 31))) (a3 + (1 : Int32)) S hF)
      · refine g_iconst (v := (0 : Int32)) C dX6_told_66 rfl ?_
        refine g_goto C 73 dX6_told_67 rfl ?_
        refine g_ior C dX6_told_73 ?_
        refine g_istore_n C dX6_told_74 (by decide) rfl ?_
        refine g_iinc (v := (1 : Int32)) C 3 dX6_told_75 rfl rfl (by decide) rfl ?_
        refine g_goto C 35 dX6_told_78 rfl ?_
        exact g_sub [2, 3, 1, 0] rfl (hih a0 a1 (a2 ||| (0 : Int32)) (a3 + (1 : Int32)) S hF)
theorem wfX6_told_j21 {r : Int32} {S1 : gS} (C : gCx p l R s m args meth c D K RX6 cX6_told 4 (Option.some Jvm.ClassFile.FieldType.int) [] "told" u0) (hRf : R.frames = 2) (hRl : R.locals = 124) : ∀ (a0 : Option Nat) (a1 : Int32) (t0 : Int32) (t1 : Option Nat) (S : gS), fX6_told_j21 a0 a1 t0 t1 S = some (r, S1) → gW p l e R s m args below meth c D K 4 u0 (gEnd below args s D K u0 (.inl (some (.int r))) S1) S 21 [(0, va_rf a0), (1, .int a1)] [.int t0, va_rf t1] := by
  intro a0 a1 t0 t1 S hF
  unfold fX6_told_j21 at hF
  refine g_iconst (v := (1 : Int32)) C dX6_told_21 rfl ?_
  refine g_iconst (v := (1 : Int32)) C dX6_told_22 rfl ?_
  obtain ⟨x1, S2, h, hF⟩ := gB_some hF
  obtain ⟨hi, h⟩ := gV_some h
  refine g_after (g_runV (n := 3) C dX6_told_23 rfl hi (mX6_bad C.2.2.2.2.2.2.2.2.2.2.2.1 t1 t0 (1 : Int32) (1 : Int32) S _ _ h) (lw_V q2183 q2185 qs46 q124 q2186) (by decide +kernel) ⟨by rw [hRf]; exact Nat.le_of_ble_eq_true rfl, by rw [hRl]; exact Nat.le_of_ble_eq_true rfl⟩ rfl rfl (gle gc_0 (by decide))) ?_
  refine g_if_eq C 31 dX6_told_26 rfl hF (fun c hF => ?_) (fun c hF => ?_)
  · refine g_iconst (v := (0 : Int32)) C dX6_told_31 rfl ?_
    refine g_istore_n C dX6_told_32 (by decide) rfl ?_
    refine g_iconst (v := (0 : Int32)) C dX6_told_33 rfl ?_
    refine g_istore_n C dX6_told_34 (by decide) rfl ?_
    exact g_sub [2, 3, 1, 0] rfl (wfX6_told_l35 C hRf hRl gFU a0 a1 (0 : Int32) (0 : Int32) S2 hF)
  · refine g_iconst (v := (0 : Int32)) C dX6_told_29 rfl ?_
    cases hF
    exact g_iret C dX6_told_30 rfl rfl
theorem mX6_told {l : Launch} {D : gD} {K : gK} (hl : l.stackTraces = false) : ∀ (p0 : Option Nat) (p1 : Int32) (S : gS) (r : Int32) (S1 : gS), fX6_told p0 p1 S = some (r, S1) → gMet l D K yX6_told (ws_ yX6_told cX6_told 4 (Option.some Jvm.ClassFile.FieldType.int)) 2 124 [va_rf p0, .int p1] S (.inl (some (.int r))) S1 := by
  intro p0 p1 S r S1 hF
  unfold fX6_told at hF
  refine gMet.of hl (by decide +kernel) rfl (gle (lgs_r (lgs_i lgs_0)) (by decide)) (fun p e s m below meth c R hRf hRl C _ => ?_)
  generalize hargs : ([va_rf p0, .int p1] : List Value).toArray = args at C ⊢
  generalize hu0 : S.2.2.1 = u0 at C ⊢
  rw [show lv_args 0 [va_rf p0, .int p1] = [(0, va_rf p0), (1, .int p1)] from (lva_r rfl (lva_i rfl lva_0))]
  refine g_aload_n C 0 dX6_told_0 rfl ?_
  refine g_iconst (v := (0 : Int32)) C dX6_told_1 rfl ?_
  refine g_put C dX6_told_2 fd_44 (Or.inl q2028) (Or.inl rfl) pf_0 rfl rfl hF (fun S1 hF => ?_)
  refine g_aload_n C 0 dX6_told_5 rfl ?_
  refine g_iload_n C 1 dX6_told_6 rfl ?_
  refine g_iconst (v := (0 : Int32)) C dX6_told_7 rfl ?_
  refine g_bipush (v := (11 : Int32)) C dX6_told_8 rfl ?_
  refine g_after (g_runS (n := 3) C dX6_told_10 (mX6_in C.2.2.2.2.2.2.2.2.2.2.2.1 p1 (0 : Int32) (11 : Int32) S1 _ rfl) (lw_S q2180 q2181 q124 q2182) (by decide +kernel) ⟨by rw [hRf]; exact Nat.le_of_ble_eq_true rfl, by rw [hRl]; exact Nat.le_of_ble_eq_true rfl⟩ rfl rfl (gle (gc_r gc_0) (by decide))) ?_
  refine g_if_ne C 20 dX6_told_13 rfl hF (fun c hF => ?_) (fun c hF => ?_)
  · refine g_iconst (v := (0 : Int32)) C dX6_told_20 rfl ?_
    exact g_sub [0, 1] rfl (wfX6_told_j21 C hRf hRl p0 p1 (0 : Int32) p0 S1 hF)
  · refine g_iconst (v := (1 : Int32)) C dX6_told_16 rfl ?_
    refine g_goto C 21 dX6_told_17 rfl ?_
    exact g_sub [0, 1] rfl (wfX6_told_j21 C hRf hRl p0 p1 (1 : Int32) p0 S1 hF)
/-! VowelChoirModel.isSinger(I)Z -/
def fX6_isSinger (p0 : Option Nat) (p1 : Int32) (S : gS) : Option Int32 :=
  (oGetR [3] 12 p0 S).bind fun x1 =>
  (oLdI 0 x1 (0 : Int32) S).bind fun x2 =>
  (if ((fX6_in p1 (0 : Int32) (x2 - (1 : Int32))) = 0 ∨ (fX6_in p1 (0 : Int32) (x2 - (1 : Int32))) = 1) then some (fX6_in p1 (0 : Int32) (x2 - (1 : Int32))) else none)
theorem mX6_isSinger {l : Launch} {D : gD} {K : gK} (hl : l.stackTraces = false) : ∀ (p0 : Option Nat) (p1 : Int32) (S : gS) (r : Int32), fX6_isSinger p0 p1 S = some r → gMet l D K yX6_isSinger (ws_ yX6_isSinger cX6_isSinger 2 (Option.some Jvm.ClassFile.FieldType.boolean)) 2 122 [va_rf p0, .int p1] S (.inl (some (.int r))) S := by
  intro p0 p1 S r hF
  unfold fX6_isSinger at hF
  refine gMet.of hl (by decide +kernel) rfl (gle (lgs_r (lgs_i lgs_0)) (by decide)) (fun p e s m below meth c R hRf hRl C _ => ?_)
  generalize hargs : ([va_rf p0, .int p1] : List Value).toArray = args at C ⊢
  generalize hu0 : S.2.2.1 = u0 at C ⊢
  rw [show lv_args 0 [va_rf p0, .int p1] = [(0, va_rf p0), (1, .int p1)] from (lva_r rfl (lva_i rfl lva_0))]
  refine g_iload_n C 1 dX6_isSinger_0 rfl ?_
  refine g_iconst (v := (0 : Int32)) C dX6_isSinger_1 rfl ?_
  refine g_aload_n C 0 dX6_isSinger_2 rfl ?_
  refine g_getR C dX6_isSinger_3 fd_15 (Or.inl q2040) (Or.inl rfl) hF (fun x1 hF => ?_)
  refine g_iconst (v := (0 : Int32)) C dX6_isSinger_6 rfl ?_
  refine g_iald C dX6_isSinger_7 hF (fun x2 hF => ?_)
  refine g_iconst (v := (1 : Int32)) C dX6_isSinger_8 rfl ?_
  refine g_isub C dX6_isSinger_9 ?_
  refine g_after (g_runS (n := 3) C dX6_isSinger_10 (mX6_in C.2.2.2.2.2.2.2.2.2.2.2.1 p1 (0 : Int32) (x2 - (1 : Int32)) S _ rfl) (lw_S q2180 q2181 q124 q2182) (by decide +kernel) ⟨by rw [hRf]; exact Nat.le_of_ble_eq_true rfl, by rw [hRl]; exact Nat.le_of_ble_eq_true rfl⟩ rfl rfl (gle gc_0 (by decide))) ?_
  obtain ⟨hz, hF⟩ := gIf hF
  cases hF
  exact g_zret (ty := .boolean) C (nrZ hz) dX6_isSinger_13 rfl rfl
/-! VowelChoirModel.singer(II)I -/
def fX6_singer_j43 (a0 : Option Nat) (a1 : Int32) (a2 : Int32) (t0 : Int32) (t1 : Option Nat) (S : gS) : Option (Int32 × gS) :=
  gB (gV [3] t1 S (fX6_bad t1 t0 (2 : Int32) (1 : Int32) S)) fun x1 S2 =>
  (if x1 = 0 then
  (if a2 = (0 : Int32) then
  (oGetR [3] 14 a0 S2).bind fun x3 =>
  (oLdR 5 x3 a1 S2).bind fun x4 =>
  (oLdI 0 x4 a2 S2).bind fun x5 =>
  some (x5, S2)
  else
  if a2 = (1 : Int32) then
  (oGetR [3] 14 a0 S2).bind fun x6 =>
  (oLdR 5 x6 a1 S2).bind fun x7 =>
  (oLdI 0 x7 a2 S2).bind fun x8 =>
  some (x8, S2)
  else
  if a2 = (2 : Int32) then
  (oGetR [3] 14 a0 S2).bind fun x9 =>
  (oLdR 5 x9 a1 S2).bind fun x10 =>
  (oLdI 0 x10 a2 S2).bind fun x11 =>
  some (x11, S2)
  else
  if a2 = (3 : Int32) then
  (oGetR [3] 29 a0 S2).bind fun x12 =>
  (oLdI 0 x12 ((0 : Int32) + a1) S2).bind fun x13 =>
  some (x13, S2)
  else
  if a2 = (4 : Int32) then
  (oGetR [3] 29 a0 S2).bind fun x14 =>
  (oLdI 0 x14 ((7 : Int32) + a1) S2).bind fun x15 =>
  some (x15, S2)
  else
  if a2 = (5 : Int32) then
  (oGetR [3] 29 a0 S2).bind fun x16 =>
  (oLdI 0 x16 ((14 : Int32) + a1) S2).bind fun x17 =>
  some (x17, S2)
  else
  if a2 = (6 : Int32) then
  (oGetR [3] 29 a0 S2).bind fun x18 =>
  (oLdI 0 x18 ((21 : Int32) + a1) S2).bind fun x19 =>
  some (x19, S2)
  else
  (oGetR [3] 29 a0 S2).bind fun x20 =>
  (oLdI 0 x20 ((28 : Int32) + a1) S2).bind fun x21 =>
  some (x21, S2))
  else
  some ((0 : Int32), S2))
def fX6_singer_j19 (a0 : Option Nat) (a1 : Int32) (a2 : Int32) (t0 : Int32) (t1 : Option Nat) (S : gS) : Option (Int32 × gS) :=
  gB (gV [3] t1 S (fX6_bad t1 t0 (1 : Int32) (0 : Int32) S)) fun x1 S2 =>
  (if x1 = 0 then
  (if (fX6_in a2 (0 : Int32) (7 : Int32)) = 0 then
  fX6_singer_j43 a0 a1 a2 (1 : Int32) a0 S2
  else
  fX6_singer_j43 a0 a1 a2 (0 : Int32) a0 S2)
  else
  some ((0 : Int32), S2))
def fX6_singer (p0 : Option Nat) (p1 : Int32) (p2 : Int32) (S : gS) : Option (Int32 × gS) :=
  (oPut [3] 0 p0 (.int ((0 : Int32))) S).bind fun S1 =>
  (gV [3] p0 S1 (fX6_isSinger p0 p1 S1)).bind fun x2 =>
  (if x2 = 0 then
  fX6_singer_j19 p0 p1 p2 (1 : Int32) p0 S1
  else
  fX6_singer_j19 p0 p1 p2 (0 : Int32) p0 S1)
theorem wfX6_singer_j43 {r : Int32} {S1 : gS} (C : gCx p l R s m args meth c D K RX6 cX6_singer 3 (Option.some Jvm.ClassFile.FieldType.int) [] "singer" u0) (hRf : R.frames = 3) (hRl : R.locals = 143) : ∀ (a0 : Option Nat) (a1 : Int32) (a2 : Int32) (t0 : Int32) (t1 : Option Nat) (S : gS), fX6_singer_j43 a0 a1 a2 t0 t1 S = some (r, S1) → gW p l e R s m args below meth c D K 3 u0 (gEnd below args s D K u0 (.inl (some (.int r))) S1) S 43 [(0, va_rf a0), (1, .int a1), (2, .int a2)] [.int t0, va_rf t1] := by
  intro a0 a1 a2 t0 t1 S hF
  unfold fX6_singer_j43 at hF
  refine g_iconst (v := (2 : Int32)) C dX6_singer_43 rfl ?_
  refine g_iconst (v := (1 : Int32)) C dX6_singer_44 rfl ?_
  obtain ⟨x1, S2, h, hF⟩ := gB_some hF
  obtain ⟨hi, h⟩ := gV_some h
  refine g_after (g_runV (n := 3) C dX6_singer_45 rfl hi (mX6_bad C.2.2.2.2.2.2.2.2.2.2.2.1 t1 t0 (2 : Int32) (1 : Int32) S _ _ h) (lw_V q2183 q2185 qs46 q124 q2186) (by decide +kernel) ⟨by rw [hRf]; exact Nat.le_of_ble_eq_true rfl, by rw [hRl]; exact Nat.le_of_ble_eq_true rfl⟩ rfl rfl (gle gc_0 (by decide))) ?_
  refine g_if_eq C 53 dX6_singer_48 rfl hF (fun c hF => ?_) (fun c hF => ?_)
  · refine g_iload_n C 2 dX6_singer_53 rfl ?_
    refine g_case hF (fun c0 hF => ?_) (fun c0 hF => ?_)
    · refine g_tableIn C (0) (42) 96 dX6_singer_54 (by rw [c0]; rfl) (by decide) (by decide) rfl rfl ?_
      refine g_aload_n C 0 dX6_singer_96 rfl ?_
      refine g_getR C dX6_singer_97 fd_16 (Or.inl q2042) (Or.inl rfl) hF (fun x3 hF => ?_)
      refine g_iload_n C 1 dX6_singer_100 rfl ?_
      refine g_aald C (kd := 5) rfl dX6_singer_101 hF (fun x4 hF => ?_)
      refine g_iload_n C 2 dX6_singer_102 rfl ?_
      refine g_iald C dX6_singer_103 hF (fun x5 hF => ?_)
      cases hF
      exact g_iret C dX6_singer_104 rfl rfl
    refine g_case hF (fun c1 hF => ?_) (fun c1 hF => ?_)
    · refine g_tableIn C (1) (42) 96 dX6_singer_54 (by rw [c1]; rfl) (by decide) (by decide) rfl rfl ?_
      refine g_aload_n C 0 dX6_singer_96 rfl ?_
      refine g_getR C dX6_singer_97 fd_16 (Or.inl q2042) (Or.inl rfl) hF (fun x6 hF => ?_)
      refine g_iload_n C 1 dX6_singer_100 rfl ?_
      refine g_aald C (kd := 5) rfl dX6_singer_101 hF (fun x7 hF => ?_)
      refine g_iload_n C 2 dX6_singer_102 rfl ?_
      refine g_iald C dX6_singer_103 hF (fun x8 hF => ?_)
      cases hF
      exact g_iret C dX6_singer_104 rfl rfl
    refine g_case hF (fun c2 hF => ?_) (fun c2 hF => ?_)
    · refine g_tableIn C (2) (42) 96 dX6_singer_54 (by rw [c2]; rfl) (by decide) (by decide) rfl rfl ?_
      refine g_aload_n C 0 dX6_singer_96 rfl ?_
      refine g_getR C dX6_singer_97 fd_16 (Or.inl q2042) (Or.inl rfl) hF (fun x9 hF => ?_)
      refine g_iload_n C 1 dX6_singer_100 rfl ?_
      refine g_aald C (kd := 5) rfl dX6_singer_101 hF (fun x10 hF => ?_)
      refine g_iload_n C 2 dX6_singer_102 rfl ?_
      refine g_iald C dX6_singer_103 hF (fun x11 hF => ?_)
      cases hF
      exact g_iret C dX6_singer_104 rfl rfl
    refine g_case hF (fun c3 hF => ?_) (fun c3 hF => ?_)
    · refine g_tableIn C (3) (51) 105 dX6_singer_54 (by rw [c3]; rfl) (by decide) (by decide) rfl rfl ?_
      refine g_aload_n C 0 dX6_singer_105 rfl ?_
      refine g_getR C dX6_singer_106 fd_22 (Or.inl q2057) (Or.inl rfl) hF (fun x12 hF => ?_)
      refine g_iconst (v := (0 : Int32)) C dX6_singer_109 rfl ?_
      refine g_iload_n C 1 dX6_singer_110 rfl ?_
      refine g_iadd C dX6_singer_111 ?_
      refine g_iald C dX6_singer_112 hF (fun x13 hF => ?_)
      cases hF
      exact g_iret C dX6_singer_113 rfl rfl
    refine g_case hF (fun c4 hF => ?_) (fun c4 hF => ?_)
    · refine g_tableIn C (4) (60) 114 dX6_singer_54 (by rw [c4]; rfl) (by decide) (by decide) rfl rfl ?_
      refine g_aload_n C 0 dX6_singer_114 rfl ?_
      refine g_getR C dX6_singer_115 fd_22 (Or.inl q2057) (Or.inl rfl) hF (fun x14 hF => ?_)
      refine g_bipush (v := (7 : Int32)) C dX6_singer_118 rfl ?_
      refine g_iload_n C 1 dX6_singer_120 rfl ?_
      refine g_iadd C dX6_singer_121 ?_
      refine g_iald C dX6_singer_122 hF (fun x15 hF => ?_)
      cases hF
      exact g_iret C dX6_singer_123 rfl rfl
    refine g_case hF (fun c5 hF => ?_) (fun c5 hF => ?_)
    · refine g_tableIn C (5) (70) 124 dX6_singer_54 (by rw [c5]; rfl) (by decide) (by decide) rfl rfl ?_
      refine g_aload_n C 0 dX6_singer_124 rfl ?_
      refine g_getR C dX6_singer_125 fd_22 (Or.inl q2057) (Or.inl rfl) hF (fun x16 hF => ?_)
      refine g_bipush (v := (14 : Int32)) C dX6_singer_128 rfl ?_
      refine g_iload_n C 1 dX6_singer_130 rfl ?_
      refine g_iadd C dX6_singer_131 ?_
      refine g_iald C dX6_singer_132 hF (fun x17 hF => ?_)
      cases hF
      exact g_iret C dX6_singer_133 rfl rfl
    refine g_case hF (fun c6 hF => ?_) (fun c6 hF => ?_)
    · refine g_tableIn C (6) (80) 134 dX6_singer_54 (by rw [c6]; rfl) (by decide) (by decide) rfl rfl ?_
      refine g_aload_n C 0 dX6_singer_134 rfl ?_
      refine g_getR C dX6_singer_135 fd_22 (Or.inl q2057) (Or.inl rfl) hF (fun x18 hF => ?_)
      refine g_bipush (v := (21 : Int32)) C dX6_singer_138 rfl ?_
      refine g_iload_n C 1 dX6_singer_140 rfl ?_
      refine g_iadd C dX6_singer_141 ?_
      refine g_iald C dX6_singer_142 hF (fun x19 hF => ?_)
      cases hF
      exact g_iret C dX6_singer_143 rfl rfl
    have hne := And.intro trivial trivial
    have n0 := lv_neT c0 (show ((0 : Int32)).toInt = 0 by decide)
    have n1 := lv_neT c1 (show ((1 : Int32)).toInt = 1 by decide)
    have n2 := lv_neT c2 (show ((2 : Int32)).toInt = 2 by decide)
    have n3 := lv_neT c3 (show ((3 : Int32)).toInt = 3 by decide)
    have n4 := lv_neT c4 (show ((4 : Int32)).toInt = 4 by decide)
    have n5 := lv_neT c5 (show ((5 : Int32)).toInt = 5 by decide)
    have n6 := lv_neT c6 (show ((6 : Int32)).toInt = 6 by decide)
    refine g_tableOut C 144 dX6_singer_54 (by omega) rfl ?_
    refine g_aload_n C 0 dX6_singer_144 rfl ?_
    refine g_getR C dX6_singer_145 fd_22 (Or.inl q2057) (Or.inl rfl) hF (fun x20 hF => ?_)
    refine g_bipush (v := (28 : Int32)) C dX6_singer_148 rfl ?_
    refine g_iload_n C 1 dX6_singer_150 rfl ?_
    refine g_iadd C dX6_singer_151 ?_
    refine g_iald C dX6_singer_152 hF (fun x21 hF => ?_)
    cases hF
    exact g_iret C dX6_singer_153 rfl rfl
  · refine g_iconst (v := (0 : Int32)) C dX6_singer_51 rfl ?_
    cases hF
    exact g_iret C dX6_singer_52 rfl rfl
theorem wfX6_singer_j19 {r : Int32} {S1 : gS} (C : gCx p l R s m args meth c D K RX6 cX6_singer 3 (Option.some Jvm.ClassFile.FieldType.int) [] "singer" u0) (hRf : R.frames = 3) (hRl : R.locals = 143) : ∀ (a0 : Option Nat) (a1 : Int32) (a2 : Int32) (t0 : Int32) (t1 : Option Nat) (S : gS), fX6_singer_j19 a0 a1 a2 t0 t1 S = some (r, S1) → gW p l e R s m args below meth c D K 3 u0 (gEnd below args s D K u0 (.inl (some (.int r))) S1) S 19 [(0, va_rf a0), (1, .int a1), (2, .int a2)] [.int t0, va_rf t1] := by
  intro a0 a1 a2 t0 t1 S hF
  unfold fX6_singer_j19 at hF
  refine g_iconst (v := (1 : Int32)) C dX6_singer_19 rfl ?_
  refine g_iconst (v := (0 : Int32)) C dX6_singer_20 rfl ?_
  obtain ⟨x1, S2, h, hF⟩ := gB_some hF
  obtain ⟨hi, h⟩ := gV_some h
  refine g_after (g_runV (n := 3) C dX6_singer_21 rfl hi (mX6_bad C.2.2.2.2.2.2.2.2.2.2.2.1 t1 t0 (1 : Int32) (0 : Int32) S _ _ h) (lw_V q2183 q2185 qs46 q124 q2186) (by decide +kernel) ⟨by rw [hRf]; exact Nat.le_of_ble_eq_true rfl, by rw [hRl]; exact Nat.le_of_ble_eq_true rfl⟩ rfl rfl (gle gc_0 (by decide))) ?_
  refine g_if_ne C 51 dX6_singer_24 rfl hF (fun c hF => ?_) (fun c hF => ?_)
  · refine g_iconst (v := (0 : Int32)) C dX6_singer_51 rfl ?_
    cases hF
    exact g_iret C dX6_singer_52 rfl rfl
  · refine g_aload_n C 0 dX6_singer_27 rfl ?_
    refine g_iload_n C 2 dX6_singer_28 rfl ?_
    refine g_iconst (v := (0 : Int32)) C dX6_singer_29 rfl ?_
    refine g_bipush (v := (7 : Int32)) C dX6_singer_30 rfl ?_
    refine g_after (g_runS (n := 3) C dX6_singer_32 (mX6_in C.2.2.2.2.2.2.2.2.2.2.2.1 a2 (0 : Int32) (7 : Int32) S2 _ rfl) (lw_S q2180 q2181 q124 q2182) (by decide +kernel) ⟨by rw [hRf]; exact Nat.le_of_ble_eq_true rfl, by rw [hRl]; exact Nat.le_of_ble_eq_true rfl⟩ rfl rfl (gle (gc_r gc_0) (by decide))) ?_
    refine g_if_ne C 42 dX6_singer_35 rfl hF (fun c hF => ?_) (fun c hF => ?_)
    · refine g_iconst (v := (0 : Int32)) C dX6_singer_42 rfl ?_
      exact g_sub [0, 1, 2] rfl (wfX6_singer_j43 C hRf hRl a0 a1 a2 (0 : Int32) a0 S2 hF)
    · refine g_iconst (v := (1 : Int32)) C dX6_singer_38 rfl ?_
      refine g_goto C 43 dX6_singer_39 rfl ?_
      exact g_sub [0, 1, 2] rfl (wfX6_singer_j43 C hRf hRl a0 a1 a2 (1 : Int32) a0 S2 hF)
theorem mX6_singer {l : Launch} {D : gD} {K : gK} (hl : l.stackTraces = false) : ∀ (p0 : Option Nat) (p1 : Int32) (p2 : Int32) (S : gS) (r : Int32) (S1 : gS), fX6_singer p0 p1 p2 S = some (r, S1) → gMet l D K yX6_singer (ws_ yX6_singer cX6_singer 3 (Option.some Jvm.ClassFile.FieldType.int)) 3 143 [va_rf p0, .int p1, .int p2] S (.inl (some (.int r))) S1 := by
  intro p0 p1 p2 S r S1 hF
  unfold fX6_singer at hF
  refine gMet.of hl (by decide +kernel) rfl (gle (lgs_r (lgs_i (lgs_i lgs_0))) (by decide)) (fun p e s m below meth c R hRf hRl C _ => ?_)
  generalize hargs : ([va_rf p0, .int p1, .int p2] : List Value).toArray = args at C ⊢
  generalize hu0 : S.2.2.1 = u0 at C ⊢
  rw [show lv_args 0 [va_rf p0, .int p1, .int p2] = [(0, va_rf p0), (1, .int p1), (2, .int p2)] from (lva_r rfl (lva_i rfl (lva_i rfl lva_0)))]
  refine g_aload_n C 0 dX6_singer_0 rfl ?_
  refine g_iconst (v := (0 : Int32)) C dX6_singer_1 rfl ?_
  refine g_put C dX6_singer_2 fd_44 (Or.inl q2028) (Or.inl rfl) pf_0 rfl rfl hF (fun S1 hF => ?_)
  refine g_aload_n C 0 dX6_singer_5 rfl ?_
  refine g_aload_n C 0 dX6_singer_6 rfl ?_
  refine g_iload_n C 1 dX6_singer_7 rfl ?_
  obtain ⟨x2, h, hF⟩ := oB hF
  obtain ⟨hi, h⟩ := gV_some h
  refine g_after (g_runV (n := 1) C dX6_singer_8 rfl hi (mX6_isSinger C.2.2.2.2.2.2.2.2.2.2.2.1 p0 p1 S1 _ h) (lw_V q2386 q2388 qs82 q124 q2389) (by decide +kernel) ⟨by rw [hRf]; exact Nat.le_of_ble_eq_true rfl, by rw [hRl]; exact Nat.le_of_ble_eq_true rfl⟩ rfl rfl (gle (gc_r gc_0) (by decide))) ?_
  refine g_if_ne C 18 dX6_singer_11 rfl hF (fun c hF => ?_) (fun c hF => ?_)
  · refine g_iconst (v := (0 : Int32)) C dX6_singer_18 rfl ?_
    exact g_sub [0, 1, 2] rfl (wfX6_singer_j19 C hRf hRl p0 p1 p2 (0 : Int32) p0 S1 hF)
  · refine g_iconst (v := (1 : Int32)) C dX6_singer_14 rfl ?_
    refine g_goto C 19 dX6_singer_15 rfl ?_
    exact g_sub [0, 1, 2] rfl (wfX6_singer_j19 C hRf hRl p0 p1 p2 (1 : Int32) p0 S1 hF)
/-! VowelChoirModel.isNote(I)Z -/
def fX6_isNote (p0 : Option Nat) (p1 : Int32) (S : gS) : Option Int32 :=
  (oGetR [3] 12 p0 S).bind fun x1 =>
  (oLdI 0 x1 (1 : Int32) S).bind fun x2 =>
  (if ((fX6_in p1 (0 : Int32) (x2 - (1 : Int32))) = 0 ∨ (fX6_in p1 (0 : Int32) (x2 - (1 : Int32))) = 1) then some (fX6_in p1 (0 : Int32) (x2 - (1 : Int32))) else none)
theorem mX6_isNote {l : Launch} {D : gD} {K : gK} (hl : l.stackTraces = false) : ∀ (p0 : Option Nat) (p1 : Int32) (S : gS) (r : Int32), fX6_isNote p0 p1 S = some r → gMet l D K yX6_isNote (ws_ yX6_isNote cX6_isNote 2 (Option.some Jvm.ClassFile.FieldType.boolean)) 2 122 [va_rf p0, .int p1] S (.inl (some (.int r))) S := by
  intro p0 p1 S r hF
  unfold fX6_isNote at hF
  refine gMet.of hl (by decide +kernel) rfl (gle (lgs_r (lgs_i lgs_0)) (by decide)) (fun p e s m below meth c R hRf hRl C _ => ?_)
  generalize hargs : ([va_rf p0, .int p1] : List Value).toArray = args at C ⊢
  generalize hu0 : S.2.2.1 = u0 at C ⊢
  rw [show lv_args 0 [va_rf p0, .int p1] = [(0, va_rf p0), (1, .int p1)] from (lva_r rfl (lva_i rfl lva_0))]
  refine g_iload_n C 1 dX6_isNote_0 rfl ?_
  refine g_iconst (v := (0 : Int32)) C dX6_isNote_1 rfl ?_
  refine g_aload_n C 0 dX6_isNote_2 rfl ?_
  refine g_getR C dX6_isNote_3 fd_15 (Or.inl q2040) (Or.inl rfl) hF (fun x1 hF => ?_)
  refine g_iconst (v := (1 : Int32)) C dX6_isNote_6 rfl ?_
  refine g_iald C dX6_isNote_7 hF (fun x2 hF => ?_)
  refine g_iconst (v := (1 : Int32)) C dX6_isNote_8 rfl ?_
  refine g_isub C dX6_isNote_9 ?_
  refine g_after (g_runS (n := 3) C dX6_isNote_10 (mX6_in C.2.2.2.2.2.2.2.2.2.2.2.1 p1 (0 : Int32) (x2 - (1 : Int32)) S _ rfl) (lw_S q2180 q2181 q124 q2182) (by decide +kernel) ⟨by rw [hRf]; exact Nat.le_of_ble_eq_true rfl, by rw [hRl]; exact Nat.le_of_ble_eq_true rfl⟩ rfl rfl (gle gc_0 (by decide))) ?_
  obtain ⟨hz, hF⟩ := gIf hF
  cases hF
  exact g_zret (ty := .boolean) C (nrZ hz) dX6_isNote_13 rfl rfl
/-! VowelChoirModel.note(II)I -/
def fX6_note_j42 (a0 : Option Nat) (a1 : Int32) (a2 : Int32) (t0 : Int32) (t1 : Option Nat) (S : gS) : Option (Int32 × gS) :=
  gB (gV [3] t1 S (fX6_bad t1 t0 (2 : Int32) (1 : Int32) S)) fun x1 S2 =>
  (if x1 = 0 then
  (if a2 = 0 then
  (oGetR [3] 29 a0 S2).bind fun x9 =>
  (oLdI 0 x9 ((35 : Int32) + a1) S2).bind fun x10 =>
  some (x10, S2)
  else
  (if (3 : Int32) ≤ a2 then
  (oGetR [3] 29 a0 S2).bind fun x3 =>
  gB (gV [3] a0 S2 (fX6_sungBy a0 x3 a1 S2)) fun x4 S5 =>
  some (x4, S5)
  else
  (oGetR [3] 16 a0 S2).bind fun x6 =>
  (oLdR 5 x6 a1 S2).bind fun x7 =>
  (oLdI 0 x7 (a2 - (1 : Int32)) S2).bind fun x8 =>
  some (x8, S2)))
  else
  some ((0 : Int32), S2))
def fX6_note_j19 (a0 : Option Nat) (a1 : Int32) (a2 : Int32) (t0 : Int32) (t1 : Option Nat) (S : gS) : Option (Int32 × gS) :=
  gB (gV [3] t1 S (fX6_bad t1 t0 (1 : Int32) (0 : Int32) S)) fun x1 S2 =>
  (if x1 = 0 then
  (if (fX6_in a2 (0 : Int32) (3 : Int32)) = 0 then
  fX6_note_j42 a0 a1 a2 (1 : Int32) a0 S2
  else
  fX6_note_j42 a0 a1 a2 (0 : Int32) a0 S2)
  else
  some ((0 : Int32), S2))
def fX6_note (p0 : Option Nat) (p1 : Int32) (p2 : Int32) (S : gS) : Option (Int32 × gS) :=
  (oPut [3] 0 p0 (.int ((0 : Int32))) S).bind fun S1 =>
  (gV [3] p0 S1 (fX6_isNote p0 p1 S1)).bind fun x2 =>
  (if x2 = 0 then
  fX6_note_j19 p0 p1 p2 (1 : Int32) p0 S1
  else
  fX6_note_j19 p0 p1 p2 (0 : Int32) p0 S1)
theorem wfX6_note_j42 {r : Int32} {S1 : gS} (C : gCx p l R s m args meth c D K RX6 cX6_note 3 (Option.some Jvm.ClassFile.FieldType.int) [] "note" u0) (hRf : R.frames = 7) (hRl : R.locals = 239) : ∀ (a0 : Option Nat) (a1 : Int32) (a2 : Int32) (t0 : Int32) (t1 : Option Nat) (S : gS), fX6_note_j42 a0 a1 a2 t0 t1 S = some (r, S1) → gW p l e R s m args below meth c D K 3 u0 (gEnd below args s D K u0 (.inl (some (.int r))) S1) S 42 [(0, va_rf a0), (1, .int a1), (2, .int a2)] [.int t0, va_rf t1] := by
  intro a0 a1 a2 t0 t1 S hF
  unfold fX6_note_j42 at hF
  refine g_iconst (v := (2 : Int32)) C dX6_note_42 rfl ?_
  refine g_iconst (v := (1 : Int32)) C dX6_note_43 rfl ?_
  obtain ⟨x1, S2, h, hF⟩ := gB_some hF
  obtain ⟨hi, h⟩ := gV_some h
  refine g_after (g_runV (n := 3) C dX6_note_44 rfl hi (mX6_bad C.2.2.2.2.2.2.2.2.2.2.2.1 t1 t0 (2 : Int32) (1 : Int32) S _ _ h) (lw_V q2183 q2185 qs46 q124 q2186) (by decide +kernel) ⟨by rw [hRf]; exact Nat.le_of_ble_eq_true rfl, by rw [hRl]; exact Nat.le_of_ble_eq_true rfl⟩ rfl rfl (gle gc_0 (by decide))) ?_
  refine g_if_eq C 52 dX6_note_47 rfl hF (fun c hF => ?_) (fun c hF => ?_)
  · refine g_iload_n C 2 dX6_note_52 rfl ?_
    refine g_if_ne C 68 dX6_note_53 rfl hF (fun c hF => ?_) (fun c hF => ?_)
    · refine g_iload_n C 2 dX6_note_68 rfl ?_
      refine g_iconst (v := (3 : Int32)) C dX6_note_69 rfl ?_
      refine g_icmp_ge C 86 dX6_note_70 rfl hF (fun c hF => ?_) (fun c hF => ?_)
      · refine g_aload_n C 0 dX6_note_86 rfl ?_
        refine g_aload_n C 0 dX6_note_87 rfl ?_
        refine g_getR C dX6_note_88 fd_22 (Or.inl q2057) (Or.inl rfl) hF (fun x3 hF => ?_)
        refine g_iload_n C 1 dX6_note_91 rfl ?_
        obtain ⟨x4, S5, h, hF⟩ := gB_some hF
        obtain ⟨hi, h⟩ := gV_some h
        refine g_after (g_runV (n := 2) C dX6_note_92 rfl hi (mX6_sungBy C.2.2.2.2.2.2.2.2.2.2.2.1 a0 x3 a1 S2 _ _ h) (lw_V q2322 q2324 qs72 q124 q2325) (by decide +kernel) ⟨by rw [hRf]; exact Nat.le_of_ble_eq_true rfl, by rw [hRl]; exact Nat.le_of_ble_eq_true rfl⟩ rfl rfl (gle gc_0 (by decide))) ?_
        cases hF
        exact g_iret C dX6_note_95 rfl rfl
      · refine g_aload_n C 0 dX6_note_73 rfl ?_
        refine g_getR C dX6_note_74 fd_19 (Or.inl q2044) (Or.inl rfl) hF (fun x6 hF => ?_)
        refine g_iload_n C 1 dX6_note_77 rfl ?_
        refine g_aald C (kd := 5) rfl dX6_note_78 hF (fun x7 hF => ?_)
        refine g_iload_n C 2 dX6_note_79 rfl ?_
        refine g_iconst (v := (1 : Int32)) C dX6_note_80 rfl ?_
        refine g_isub C dX6_note_81 ?_
        refine g_iald C dX6_note_82 hF (fun x8 hF => ?_)
        refine g_goto C 95 dX6_note_83 rfl ?_
        cases hF
        exact g_iret C dX6_note_95 rfl rfl
    · refine g_aload_n C 0 dX6_note_56 rfl ?_
      refine g_getR C dX6_note_57 fd_22 (Or.inl q2057) (Or.inl rfl) hF (fun x9 hF => ?_)
      refine g_bipush (v := (35 : Int32)) C dX6_note_60 rfl ?_
      refine g_iload_n C 1 dX6_note_62 rfl ?_
      refine g_iadd C dX6_note_63 ?_
      refine g_iald C dX6_note_64 hF (fun x10 hF => ?_)
      refine g_goto C 95 dX6_note_65 rfl ?_
      cases hF
      exact g_iret C dX6_note_95 rfl rfl
  · refine g_iconst (v := (0 : Int32)) C dX6_note_50 rfl ?_
    cases hF
    exact g_iret C dX6_note_51 rfl rfl
theorem wfX6_note_j19 {r : Int32} {S1 : gS} (C : gCx p l R s m args meth c D K RX6 cX6_note 3 (Option.some Jvm.ClassFile.FieldType.int) [] "note" u0) (hRf : R.frames = 7) (hRl : R.locals = 239) : ∀ (a0 : Option Nat) (a1 : Int32) (a2 : Int32) (t0 : Int32) (t1 : Option Nat) (S : gS), fX6_note_j19 a0 a1 a2 t0 t1 S = some (r, S1) → gW p l e R s m args below meth c D K 3 u0 (gEnd below args s D K u0 (.inl (some (.int r))) S1) S 19 [(0, va_rf a0), (1, .int a1), (2, .int a2)] [.int t0, va_rf t1] := by
  intro a0 a1 a2 t0 t1 S hF
  unfold fX6_note_j19 at hF
  refine g_iconst (v := (1 : Int32)) C dX6_note_19 rfl ?_
  refine g_iconst (v := (0 : Int32)) C dX6_note_20 rfl ?_
  obtain ⟨x1, S2, h, hF⟩ := gB_some hF
  obtain ⟨hi, h⟩ := gV_some h
  refine g_after (g_runV (n := 3) C dX6_note_21 rfl hi (mX6_bad C.2.2.2.2.2.2.2.2.2.2.2.1 t1 t0 (1 : Int32) (0 : Int32) S _ _ h) (lw_V q2183 q2185 qs46 q124 q2186) (by decide +kernel) ⟨by rw [hRf]; exact Nat.le_of_ble_eq_true rfl, by rw [hRl]; exact Nat.le_of_ble_eq_true rfl⟩ rfl rfl (gle gc_0 (by decide))) ?_
  refine g_if_ne C 50 dX6_note_24 rfl hF (fun c hF => ?_) (fun c hF => ?_)
  · refine g_iconst (v := (0 : Int32)) C dX6_note_50 rfl ?_
    cases hF
    exact g_iret C dX6_note_51 rfl rfl
  · refine g_aload_n C 0 dX6_note_27 rfl ?_
    refine g_iload_n C 2 dX6_note_28 rfl ?_
    refine g_iconst (v := (0 : Int32)) C dX6_note_29 rfl ?_
    refine g_iconst (v := (3 : Int32)) C dX6_note_30 rfl ?_
    refine g_after (g_runS (n := 3) C dX6_note_31 (mX6_in C.2.2.2.2.2.2.2.2.2.2.2.1 a2 (0 : Int32) (3 : Int32) S2 _ rfl) (lw_S q2180 q2181 q124 q2182) (by decide +kernel) ⟨by rw [hRf]; exact Nat.le_of_ble_eq_true rfl, by rw [hRl]; exact Nat.le_of_ble_eq_true rfl⟩ rfl rfl (gle (gc_r gc_0) (by decide))) ?_
    refine g_if_ne C 41 dX6_note_34 rfl hF (fun c hF => ?_) (fun c hF => ?_)
    · refine g_iconst (v := (0 : Int32)) C dX6_note_41 rfl ?_
      exact g_sub [0, 1, 2] rfl (wfX6_note_j42 C hRf hRl a0 a1 a2 (0 : Int32) a0 S2 hF)
    · refine g_iconst (v := (1 : Int32)) C dX6_note_37 rfl ?_
      refine g_goto C 42 dX6_note_38 rfl ?_
      exact g_sub [0, 1, 2] rfl (wfX6_note_j42 C hRf hRl a0 a1 a2 (1 : Int32) a0 S2 hF)
theorem mX6_note {l : Launch} {D : gD} {K : gK} (hl : l.stackTraces = false) : ∀ (p0 : Option Nat) (p1 : Int32) (p2 : Int32) (S : gS) (r : Int32) (S1 : gS), fX6_note p0 p1 p2 S = some (r, S1) → gMet l D K yX6_note (ws_ yX6_note cX6_note 3 (Option.some Jvm.ClassFile.FieldType.int)) 7 239 [va_rf p0, .int p1, .int p2] S (.inl (some (.int r))) S1 := by
  intro p0 p1 p2 S r S1 hF
  unfold fX6_note at hF
  refine gMet.of hl (by decide +kernel) rfl (gle (lgs_r (lgs_i (lgs_i lgs_0))) (by decide)) (fun p e s m below meth c R hRf hRl C _ => ?_)
  generalize hargs : ([va_rf p0, .int p1, .int p2] : List Value).toArray = args at C ⊢
  generalize hu0 : S.2.2.1 = u0 at C ⊢
  rw [show lv_args 0 [va_rf p0, .int p1, .int p2] = [(0, va_rf p0), (1, .int p1), (2, .int p2)] from (lva_r rfl (lva_i rfl (lva_i rfl lva_0)))]
  refine g_aload_n C 0 dX6_note_0 rfl ?_
  refine g_iconst (v := (0 : Int32)) C dX6_note_1 rfl ?_
  refine g_put C dX6_note_2 fd_44 (Or.inl q2028) (Or.inl rfl) pf_0 rfl rfl hF (fun S1 hF => ?_)
  refine g_aload_n C 0 dX6_note_5 rfl ?_
  refine g_aload_n C 0 dX6_note_6 rfl ?_
  refine g_iload_n C 1 dX6_note_7 rfl ?_
  obtain ⟨x2, h, hF⟩ := oB hF
  obtain ⟨hi, h⟩ := gV_some h
  refine g_after (g_runV (n := 1) C dX6_note_8 rfl hi (mX6_isNote C.2.2.2.2.2.2.2.2.2.2.2.1 p0 p1 S1 _ h) (lw_V q2394 q2396 qs83 q124 q2397) (by decide +kernel) ⟨by rw [hRf]; exact Nat.le_of_ble_eq_true rfl, by rw [hRl]; exact Nat.le_of_ble_eq_true rfl⟩ rfl rfl (gle (gc_r gc_0) (by decide))) ?_
  refine g_if_ne C 18 dX6_note_11 rfl hF (fun c hF => ?_) (fun c hF => ?_)
  · refine g_iconst (v := (0 : Int32)) C dX6_note_18 rfl ?_
    exact g_sub [0, 1, 2] rfl (wfX6_note_j19 C hRf hRl p0 p1 p2 (0 : Int32) p0 S1 hF)
  · refine g_iconst (v := (1 : Int32)) C dX6_note_14 rfl ?_
    refine g_goto C 19 dX6_note_15 rfl ?_
    exact g_sub [0, 1, 2] rfl (wfX6_note_j19 C hRf hRl p0 p1 p2 (1 : Int32) p0 S1 hF)
/-! VowelChoirModel.like(II)I -/
def fX6_like_j50 (a0 : Option Nat) (a1 : Int32) (a2 : Int32) (t0 : Int32) (t1 : Option Nat) (S : gS) : Option (Int32 × gS) :=
  gB (gV [3] t1 S (fX6_bad t1 t0 (2 : Int32) (1 : Int32) S)) fun x1 S2 =>
  (if x1 = 0 then
  (oGetR [3] 18 a0 S2).bind fun x3 =>
  (oLdR 5 x3 a1 S2).bind fun x4 =>
  (oLdI 0 x4 a2 S2).bind fun x5 =>
  some (x5, S2)
  else
  some ((0 : Int32), S2))
def fX6_like_j27 (a0 : Option Nat) (a1 : Int32) (a2 : Int32) (t0 : Int32) (t1 : Option Nat) (S : gS) : Option (Int32 × gS) :=
  gB (gV [3] t1 S (fX6_bad t1 t0 (1 : Int32) (0 : Int32) S)) fun x1 S2 =>
  (if x1 = 0 then
  (if (fX6_in a2 (0 : Int32) (1 : Int32)) = 0 then
  fX6_like_j50 a0 a1 a2 (1 : Int32) a0 S2
  else
  fX6_like_j50 a0 a1 a2 (0 : Int32) a0 S2)
  else
  some ((0 : Int32), S2))
def fX6_like (p0 : Option Nat) (p1 : Int32) (p2 : Int32) (S : gS) : Option (Int32 × gS) :=
  (oPut [3] 0 p0 (.int ((0 : Int32))) S).bind fun S1 =>
  (oGetR [3] 12 p0 S1).bind fun x2 =>
  (oLdI 0 x2 (2 : Int32) S1).bind fun x3 =>
  (if (fX6_in p1 (0 : Int32) (x3 - (1 : Int32))) = 0 then
  fX6_like_j27 p0 p1 p2 (1 : Int32) p0 S1
  else
  fX6_like_j27 p0 p1 p2 (0 : Int32) p0 S1)
theorem wfX6_like_j50 {r : Int32} {S1 : gS} (C : gCx p l R s m args meth c D K RX6 cX6_like 3 (Option.some Jvm.ClassFile.FieldType.int) [] "like" u0) (hRf : R.frames = 2) (hRl : R.locals = 123) : ∀ (a0 : Option Nat) (a1 : Int32) (a2 : Int32) (t0 : Int32) (t1 : Option Nat) (S : gS), fX6_like_j50 a0 a1 a2 t0 t1 S = some (r, S1) → gW p l e R s m args below meth c D K 3 u0 (gEnd below args s D K u0 (.inl (some (.int r))) S1) S 50 [(0, va_rf a0), (1, .int a1), (2, .int a2)] [.int t0, va_rf t1] := by
  intro a0 a1 a2 t0 t1 S hF
  unfold fX6_like_j50 at hF
  refine g_iconst (v := (2 : Int32)) C dX6_like_50 rfl ?_
  refine g_iconst (v := (1 : Int32)) C dX6_like_51 rfl ?_
  obtain ⟨x1, S2, h, hF⟩ := gB_some hF
  obtain ⟨hi, h⟩ := gV_some h
  refine g_after (g_runV (n := 3) C dX6_like_52 rfl hi (mX6_bad C.2.2.2.2.2.2.2.2.2.2.2.1 t1 t0 (2 : Int32) (1 : Int32) S _ _ h) (lw_V q2183 q2185 qs46 q124 q2186) (by decide +kernel) ⟨by rw [hRf]; exact Nat.le_of_ble_eq_true rfl, by rw [hRl]; exact Nat.le_of_ble_eq_true rfl⟩ rfl rfl (gle gc_0 (by decide))) ?_
  refine g_if_eq C 60 dX6_like_55 rfl hF (fun c hF => ?_) (fun c hF => ?_)
  · refine g_aload_n C 0 dX6_like_60 rfl ?_
    refine g_getR C dX6_like_61 fd_21 (Or.inl q2046) (Or.inl rfl) hF (fun x3 hF => ?_)
    refine g_iload_n C 1 dX6_like_64 rfl ?_
    refine g_aald C (kd := 5) rfl dX6_like_65 hF (fun x4 hF => ?_)
    refine g_iload_n C 2 dX6_like_66 rfl ?_
    refine g_iald C dX6_like_67 hF (fun x5 hF => ?_)
    cases hF
    exact g_iret C dX6_like_68 rfl rfl
  · refine g_iconst (v := (0 : Int32)) C dX6_like_58 rfl ?_
    cases hF
    exact g_iret C dX6_like_59 rfl rfl
theorem wfX6_like_j27 {r : Int32} {S1 : gS} (C : gCx p l R s m args meth c D K RX6 cX6_like 3 (Option.some Jvm.ClassFile.FieldType.int) [] "like" u0) (hRf : R.frames = 2) (hRl : R.locals = 123) : ∀ (a0 : Option Nat) (a1 : Int32) (a2 : Int32) (t0 : Int32) (t1 : Option Nat) (S : gS), fX6_like_j27 a0 a1 a2 t0 t1 S = some (r, S1) → gW p l e R s m args below meth c D K 3 u0 (gEnd below args s D K u0 (.inl (some (.int r))) S1) S 27 [(0, va_rf a0), (1, .int a1), (2, .int a2)] [.int t0, va_rf t1] := by
  intro a0 a1 a2 t0 t1 S hF
  unfold fX6_like_j27 at hF
  refine g_iconst (v := (1 : Int32)) C dX6_like_27 rfl ?_
  refine g_iconst (v := (0 : Int32)) C dX6_like_28 rfl ?_
  obtain ⟨x1, S2, h, hF⟩ := gB_some hF
  obtain ⟨hi, h⟩ := gV_some h
  refine g_after (g_runV (n := 3) C dX6_like_29 rfl hi (mX6_bad C.2.2.2.2.2.2.2.2.2.2.2.1 t1 t0 (1 : Int32) (0 : Int32) S _ _ h) (lw_V q2183 q2185 qs46 q124 q2186) (by decide +kernel) ⟨by rw [hRf]; exact Nat.le_of_ble_eq_true rfl, by rw [hRl]; exact Nat.le_of_ble_eq_true rfl⟩ rfl rfl (gle gc_0 (by decide))) ?_
  refine g_if_ne C 58 dX6_like_32 rfl hF (fun c hF => ?_) (fun c hF => ?_)
  · refine g_iconst (v := (0 : Int32)) C dX6_like_58 rfl ?_
    cases hF
    exact g_iret C dX6_like_59 rfl rfl
  · refine g_aload_n C 0 dX6_like_35 rfl ?_
    refine g_iload_n C 2 dX6_like_36 rfl ?_
    refine g_iconst (v := (0 : Int32)) C dX6_like_37 rfl ?_
    refine g_iconst (v := (1 : Int32)) C dX6_like_38 rfl ?_
    refine g_after (g_runS (n := 3) C dX6_like_39 (mX6_in C.2.2.2.2.2.2.2.2.2.2.2.1 a2 (0 : Int32) (1 : Int32) S2 _ rfl) (lw_S q2180 q2181 q124 q2182) (by decide +kernel) ⟨by rw [hRf]; exact Nat.le_of_ble_eq_true rfl, by rw [hRl]; exact Nat.le_of_ble_eq_true rfl⟩ rfl rfl (gle (gc_r gc_0) (by decide))) ?_
    refine g_if_ne C 49 dX6_like_42 rfl hF (fun c hF => ?_) (fun c hF => ?_)
    · refine g_iconst (v := (0 : Int32)) C dX6_like_49 rfl ?_
      exact g_sub [0, 1, 2] rfl (wfX6_like_j50 C hRf hRl a0 a1 a2 (0 : Int32) a0 S2 hF)
    · refine g_iconst (v := (1 : Int32)) C dX6_like_45 rfl ?_
      refine g_goto C 50 dX6_like_46 rfl ?_
      exact g_sub [0, 1, 2] rfl (wfX6_like_j50 C hRf hRl a0 a1 a2 (1 : Int32) a0 S2 hF)
theorem mX6_like {l : Launch} {D : gD} {K : gK} (hl : l.stackTraces = false) : ∀ (p0 : Option Nat) (p1 : Int32) (p2 : Int32) (S : gS) (r : Int32) (S1 : gS), fX6_like p0 p1 p2 S = some (r, S1) → gMet l D K yX6_like (ws_ yX6_like cX6_like 3 (Option.some Jvm.ClassFile.FieldType.int)) 2 123 [va_rf p0, .int p1, .int p2] S (.inl (some (.int r))) S1 := by
  intro p0 p1 p2 S r S1 hF
  unfold fX6_like at hF
  refine gMet.of hl (by decide +kernel) rfl (gle (lgs_r (lgs_i (lgs_i lgs_0))) (by decide)) (fun p e s m below meth c R hRf hRl C _ => ?_)
  generalize hargs : ([va_rf p0, .int p1, .int p2] : List Value).toArray = args at C ⊢
  generalize hu0 : S.2.2.1 = u0 at C ⊢
  rw [show lv_args 0 [va_rf p0, .int p1, .int p2] = [(0, va_rf p0), (1, .int p1), (2, .int p2)] from (lva_r rfl (lva_i rfl (lva_i rfl lva_0)))]
  refine g_aload_n C 0 dX6_like_0 rfl ?_
  refine g_iconst (v := (0 : Int32)) C dX6_like_1 rfl ?_
  refine g_put C dX6_like_2 fd_44 (Or.inl q2028) (Or.inl rfl) pf_0 rfl rfl hF (fun S1 hF => ?_)
  refine g_aload_n C 0 dX6_like_5 rfl ?_
  refine g_iload_n C 1 dX6_like_6 rfl ?_
  refine g_iconst (v := (0 : Int32)) C dX6_like_7 rfl ?_
  refine g_aload_n C 0 dX6_like_8 rfl ?_
  refine g_getR C dX6_like_9 fd_15 (Or.inl q2040) (Or.inl rfl) hF (fun x2 hF => ?_)
  refine g_iconst (v := (2 : Int32)) C dX6_like_12 rfl ?_
  refine g_iald C dX6_like_13 hF (fun x3 hF => ?_)
  refine g_iconst (v := (1 : Int32)) C dX6_like_14 rfl ?_
  refine g_isub C dX6_like_15 ?_
  refine g_after (g_runS (n := 3) C dX6_like_16 (mX6_in C.2.2.2.2.2.2.2.2.2.2.2.1 p1 (0 : Int32) (x3 - (1 : Int32)) S1 _ rfl) (lw_S q2180 q2181 q124 q2182) (by decide +kernel) ⟨by rw [hRf]; exact Nat.le_of_ble_eq_true rfl, by rw [hRl]; exact Nat.le_of_ble_eq_true rfl⟩ rfl rfl (gle (gc_r gc_0) (by decide))) ?_
  refine g_if_ne C 26 dX6_like_19 rfl hF (fun c hF => ?_) (fun c hF => ?_)
  · refine g_iconst (v := (0 : Int32)) C dX6_like_26 rfl ?_
    exact g_sub [0, 1, 2] rfl (wfX6_like_j27 C hRf hRl p0 p1 p2 (0 : Int32) p0 S1 hF)
  · refine g_iconst (v := (1 : Int32)) C dX6_like_22 rfl ?_
    refine g_goto C 27 dX6_like_23 rfl ?_
    exact g_sub [0, 1, 2] rfl (wfX6_like_j27 C hRf hRl p0 p1 p2 (1 : Int32) p0 S1 hF)
/-! VowelChoirModel.takes(II)I -/
def fX6_takes_j27 (a0 : Option Nat) (a1 : Int32) (a2 : Int32) (t0 : Int32) (t1 : Option Nat) (S : gS) : Option (Int32 × gS) :=
  gB (gV [3] t1 S (fX6_bad t1 t0 (1 : Int32) (0 : Int32) S)) fun x1 S2 =>
  (if x1 = 0 then
  (oGetR [3] 29 a0 S2).bind fun x3 =>
  gB (gV [3] a0 S2 (fX6_breathOf a0 x3 a1 a2 S2)) fun x4 S5 =>
  some (x4, S5)
  else
  some ((0 : Int32), S2))
def fX6_takes_j22 (a0 : Option Nat) (a1 : Int32) (a2 : Int32) (t0 : Option Nat) (S : gS) : Option (Int32 × gS) :=
  fX6_takes_j27 a0 a1 a2 (1 : Int32) t0 S
def fX6_takes (p0 : Option Nat) (p1 : Int32) (p2 : Int32) (S : gS) : Option (Int32 × gS) :=
  (oPut [3] 0 p0 (.int ((0 : Int32))) S).bind fun S1 =>
  (gV [3] p0 S1 (fX6_isNote p0 p1 S1)).bind fun x2 =>
  (if x2 = 0 then
  fX6_takes_j22 p0 p1 p2 p0 S1
  else
  (gV [3] p0 S1 (fX6_isSinger p0 p2 S1)).bind fun x3 =>
  (if x3 = 0 then
  fX6_takes_j22 p0 p1 p2 p0 S1
  else
  fX6_takes_j27 p0 p1 p2 (0 : Int32) p0 S1))
theorem wfX6_takes_j27 {r : Int32} {S1 : gS} (C : gCx p l R s m args meth c D K RX6 cX6_takes 3 (Option.some Jvm.ClassFile.FieldType.int) [] "takes" u0) (hRf : R.frames = 6) (hRl : R.locals = 216) : ∀ (a0 : Option Nat) (a1 : Int32) (a2 : Int32) (t0 : Int32) (t1 : Option Nat) (S : gS), fX6_takes_j27 a0 a1 a2 t0 t1 S = some (r, S1) → gW p l e R s m args below meth c D K 3 u0 (gEnd below args s D K u0 (.inl (some (.int r))) S1) S 27 [(0, va_rf a0), (1, .int a1), (2, .int a2)] [.int t0, va_rf t1] := by
  intro a0 a1 a2 t0 t1 S hF
  unfold fX6_takes_j27 at hF
  refine g_iconst (v := (1 : Int32)) C dX6_takes_27 rfl ?_
  refine g_iconst (v := (0 : Int32)) C dX6_takes_28 rfl ?_
  obtain ⟨x1, S2, h, hF⟩ := gB_some hF
  obtain ⟨hi, h⟩ := gV_some h
  refine g_after (g_runV (n := 3) C dX6_takes_29 rfl hi (mX6_bad C.2.2.2.2.2.2.2.2.2.2.2.1 t1 t0 (1 : Int32) (0 : Int32) S _ _ h) (lw_V q2183 q2185 qs46 q124 q2186) (by decide +kernel) ⟨by rw [hRf]; exact Nat.le_of_ble_eq_true rfl, by rw [hRl]; exact Nat.le_of_ble_eq_true rfl⟩ rfl rfl (gle gc_0 (by decide))) ?_
  refine g_if_eq C 37 dX6_takes_32 rfl hF (fun c hF => ?_) (fun c hF => ?_)
  · refine g_aload_n C 0 dX6_takes_37 rfl ?_
    refine g_aload_n C 0 dX6_takes_38 rfl ?_
    refine g_getR C dX6_takes_39 fd_22 (Or.inl q2057) (Or.inl rfl) hF (fun x3 hF => ?_)
    refine g_iload_n C 1 dX6_takes_42 rfl ?_
    refine g_iload_n C 2 dX6_takes_43 rfl ?_
    obtain ⟨x4, S5, h, hF⟩ := gB_some hF
    obtain ⟨hi, h⟩ := gV_some h
    refine g_after (g_runV (n := 3) C dX6_takes_44 rfl hi (mX6_breathOf C.2.2.2.2.2.2.2.2.2.2.2.1 a0 x3 a1 a2 S2 _ _ h) (lw_V q2326 q2328 qs73 q124 q2329) (by decide +kernel) ⟨by rw [hRf]; exact Nat.le_of_ble_eq_true rfl, by rw [hRl]; exact Nat.le_of_ble_eq_true rfl⟩ rfl rfl (gle gc_0 (by decide))) ?_
    cases hF
    exact g_iret C dX6_takes_47 rfl rfl
  · refine g_iconst (v := (0 : Int32)) C dX6_takes_35 rfl ?_
    cases hF
    exact g_iret C dX6_takes_36 rfl rfl
theorem wfX6_takes_j22 {r : Int32} {S1 : gS} (C : gCx p l R s m args meth c D K RX6 cX6_takes 3 (Option.some Jvm.ClassFile.FieldType.int) [] "takes" u0) (hRf : R.frames = 6) (hRl : R.locals = 216) : ∀ (a0 : Option Nat) (a1 : Int32) (a2 : Int32) (t0 : Option Nat) (S : gS), fX6_takes_j22 a0 a1 a2 t0 S = some (r, S1) → gW p l e R s m args below meth c D K 3 u0 (gEnd below args s D K u0 (.inl (some (.int r))) S1) S 22 [(0, va_rf a0), (1, .int a1), (2, .int a2)] [va_rf t0] := by
  intro a0 a1 a2 t0 S hF
  unfold fX6_takes_j22 at hF
  refine g_iconst (v := (1 : Int32)) C dX6_takes_22 rfl ?_
  refine g_goto C 27 dX6_takes_23 rfl ?_
  exact g_sub [0, 1, 2] rfl (wfX6_takes_j27 C hRf hRl a0 a1 a2 (1 : Int32) t0 S hF)
theorem mX6_takes {l : Launch} {D : gD} {K : gK} (hl : l.stackTraces = false) : ∀ (p0 : Option Nat) (p1 : Int32) (p2 : Int32) (S : gS) (r : Int32) (S1 : gS), fX6_takes p0 p1 p2 S = some (r, S1) → gMet l D K yX6_takes (ws_ yX6_takes cX6_takes 3 (Option.some Jvm.ClassFile.FieldType.int)) 6 216 [va_rf p0, .int p1, .int p2] S (.inl (some (.int r))) S1 := by
  intro p0 p1 p2 S r S1 hF
  unfold fX6_takes at hF
  refine gMet.of hl (by decide +kernel) rfl (gle (lgs_r (lgs_i (lgs_i lgs_0))) (by decide)) (fun p e s m below meth c R hRf hRl C _ => ?_)
  generalize hargs : ([va_rf p0, .int p1, .int p2] : List Value).toArray = args at C ⊢
  generalize hu0 : S.2.2.1 = u0 at C ⊢
  rw [show lv_args 0 [va_rf p0, .int p1, .int p2] = [(0, va_rf p0), (1, .int p1), (2, .int p2)] from (lva_r rfl (lva_i rfl (lva_i rfl lva_0)))]
  refine g_aload_n C 0 dX6_takes_0 rfl ?_
  refine g_iconst (v := (0 : Int32)) C dX6_takes_1 rfl ?_
  refine g_put C dX6_takes_2 fd_44 (Or.inl q2028) (Or.inl rfl) pf_0 rfl rfl hF (fun S1 hF => ?_)
  refine g_aload_n C 0 dX6_takes_5 rfl ?_
  refine g_aload_n C 0 dX6_takes_6 rfl ?_
  refine g_iload_n C 1 dX6_takes_7 rfl ?_
  obtain ⟨x2, h, hF⟩ := oB hF
  obtain ⟨hi, h⟩ := gV_some h
  refine g_after (g_runV (n := 1) C dX6_takes_8 rfl hi (mX6_isNote C.2.2.2.2.2.2.2.2.2.2.2.1 p0 p1 S1 _ h) (lw_V q2394 q2396 qs83 q124 q2397) (by decide +kernel) ⟨by rw [hRf]; exact Nat.le_of_ble_eq_true rfl, by rw [hRl]; exact Nat.le_of_ble_eq_true rfl⟩ rfl rfl (gle (gc_r gc_0) (by decide))) ?_
  refine g_if_eq C 22 dX6_takes_11 rfl hF (fun c hF => ?_) (fun c hF => ?_)
  · exact g_sub [0, 1, 2] rfl (wfX6_takes_j22 C hRf hRl p0 p1 p2 p0 S1 hF)
  · refine g_aload_n C 0 dX6_takes_14 rfl ?_
    refine g_iload_n C 2 dX6_takes_15 rfl ?_
    obtain ⟨x3, h, hF⟩ := oB hF
    obtain ⟨hi, h⟩ := gV_some h
    refine g_after (g_runV (n := 1) C dX6_takes_16 rfl hi (mX6_isSinger C.2.2.2.2.2.2.2.2.2.2.2.1 p0 p2 S1 _ h) (lw_V q2386 q2388 qs82 q124 q2389) (by decide +kernel) ⟨by rw [hRf]; exact Nat.le_of_ble_eq_true rfl, by rw [hRl]; exact Nat.le_of_ble_eq_true rfl⟩ rfl rfl (gle (gc_r gc_0) (by decide))) ?_
    refine g_if_ne C 26 dX6_takes_19 rfl hF (fun c hF => ?_) (fun c hF => ?_)
    · refine g_iconst (v := (0 : Int32)) C dX6_takes_26 rfl ?_
      exact g_sub [0, 1, 2] rfl (wfX6_takes_j27 C hRf hRl p0 p1 p2 (0 : Int32) p0 S1 hF)
    · exact g_sub [0, 1, 2] rfl (wfX6_takes_j22 C hRf hRl p0 p1 p2 p0 S1 hF)
/-! VowelChoirModel.isVowel(I)Z -/
def fX6_isVowel (p0 : Int32) (S : gS) : Option Int32 :=
  (if ((fX6_in p0 (0 : Int32) (5 : Int32)) = 0 ∨ (fX6_in p0 (0 : Int32) (5 : Int32)) = 1) then some (fX6_in p0 (0 : Int32) (5 : Int32)) else none)
theorem mX6_isVowel {l : Launch} {D : gD} {K : gK} (hl : l.stackTraces = false) : ∀ (p0 : Int32) (S : gS) (r : Int32), fX6_isVowel p0 S = some r → gMet l D K yX6_isVowel (ws_ yX6_isVowel cX6_isVowel 1 (Option.some Jvm.ClassFile.FieldType.boolean)) 2 122 [.int p0] S (.inl (some (.int r))) S := by
  intro p0 S r hF
  unfold fX6_isVowel at hF
  refine gMet.of hl (by decide +kernel) rfl (gle (lgs_i lgs_0) (by decide)) (fun p e s m below meth c R hRf hRl C _ => ?_)
  generalize hargs : ([.int p0] : List Value).toArray = args at C ⊢
  generalize hu0 : S.2.2.1 = u0 at C ⊢
  rw [show lv_args 0 [.int p0] = [(0, .int p0)] from (lva_i rfl lva_0)]
  refine g_iload_n C 0 dX6_isVowel_0 rfl ?_
  refine g_iconst (v := (0 : Int32)) C dX6_isVowel_1 rfl ?_
  refine g_iconst (v := (5 : Int32)) C dX6_isVowel_2 rfl ?_
  refine g_after (g_runS (n := 3) C dX6_isVowel_3 (mX6_in C.2.2.2.2.2.2.2.2.2.2.2.1 p0 (0 : Int32) (5 : Int32) S _ rfl) (lw_S q2180 q2181 q124 q2182) (by decide +kernel) ⟨by rw [hRf]; exact Nat.le_of_ble_eq_true rfl, by rw [hRl]; exact Nat.le_of_ble_eq_true rfl⟩ rfl rfl (gle gc_0 (by decide))) ?_
  obtain ⟨hz, hF⟩ := gIf hF
  cases hF
  exact g_zret (ty := .boolean) C (nrZ hz) dX6_isVowel_6 rfl rfl
/-! VowelChoirModel.would(IIIIIIII)I -/
def fX6_would_j95 (a0 : Option Nat) (a1 : Int32) (a2 : Int32) (a3 : Int32) (a4 : Int32) (a5 : Int32) (a6 : Int32) (a7 : Int32) (a8 : Int32) (t0 : Int32) (t1 : Option Nat) (S : gS) : Option (Int32 × gS) :=
  gB (gV [3] t1 S (fX6_bad t1 t0 (1 : Int32) (1 : Int32) S)) fun x1 S2 =>
  (if x1 = 0 then
  gB (gV [3] a0 S2 (fX6_breathBy a0 a1 a2 a3 a4 a5 a6 a7 a8 S2)) fun x3 S4 =>
  some (x3, S4)
  else
  some ((0 : Int32), S2))
def fX6_would_j90 (a0 : Option Nat) (a1 : Int32) (a2 : Int32) (a3 : Int32) (a4 : Int32) (a5 : Int32) (a6 : Int32) (a7 : Int32) (a8 : Int32) (t0 : Option Nat) (S : gS) : Option (Int32 × gS) :=
  fX6_would_j95 a0 a1 a2 a3 a4 a5 a6 a7 a8 (1 : Int32) t0 S
def fX6_would (p0 : Option Nat) (p1 : Int32) (p2 : Int32) (p3 : Int32) (p4 : Int32) (p5 : Int32) (p6 : Int32) (p7 : Int32) (p8 : Int32) (S : gS) : Option (Int32 × gS) :=
  (oPut [3] 0 p0 (.int ((0 : Int32))) S).bind fun S1 =>
  (if (fX6_in p1 (1 : Int32) (9 : Int32)) = 0 then
  fX6_would_j90 p0 p1 p2 p3 p4 p5 p6 p7 p8 p0 S1
  else
  (if (fX6_in p2 (0 : Int32) (60 : Int32)) = 0 then
  fX6_would_j90 p0 p1 p2 p3 p4 p5 p6 p7 p8 p0 S1
  else
  (if (fX6_in p3 (0 : Int32) (30 : Int32)) = 0 then
  fX6_would_j90 p0 p1 p2 p3 p4 p5 p6 p7 p8 p0 S1
  else
  (if (fX6_in p4 (0 : Int32) (9999 : Int32)) = 0 then
  fX6_would_j90 p0 p1 p2 p3 p4 p5 p6 p7 p8 p0 S1
  else
  (if (fX6_in p5 (0 : Int32) (19 : Int32)) = 0 then
  fX6_would_j90 p0 p1 p2 p3 p4 p5 p6 p7 p8 p0 S1
  else
  (fX6_isVowel p6 S1).bind fun x2 =>
  (if x2 = 0 then
  fX6_would_j90 p0 p1 p2 p3 p4 p5 p6 p7 p8 p0 S1
  else
  (if (fX6_in p7 (0 : Int32) (400 : Int32)) = 0 then
  fX6_would_j90 p0 p1 p2 p3 p4 p5 p6 p7 p8 p0 S1
  else
  (if (fX6_in p8 (0 : Int32) (6 : Int32)) = 0 then
  fX6_would_j90 p0 p1 p2 p3 p4 p5 p6 p7 p8 p0 S1
  else
  fX6_would_j95 p0 p1 p2 p3 p4 p5 p6 p7 p8 (0 : Int32) p0 S1))))))))
theorem wfX6_would_j95 {r : Int32} {S1 : gS} (C : gCx p l R s m args meth c D K RX6 cX6_would 9 (Option.some Jvm.ClassFile.FieldType.int) [] "would" u0) (hRf : R.frames = 5) (hRl : R.locals = 193) : ∀ (a0 : Option Nat) (a1 : Int32) (a2 : Int32) (a3 : Int32) (a4 : Int32) (a5 : Int32) (a6 : Int32) (a7 : Int32) (a8 : Int32) (t0 : Int32) (t1 : Option Nat) (S : gS), fX6_would_j95 a0 a1 a2 a3 a4 a5 a6 a7 a8 t0 t1 S = some (r, S1) → gW p l e R s m args below meth c D K 9 u0 (gEnd below args s D K u0 (.inl (some (.int r))) S1) S 95 [(0, va_rf a0), (1, .int a1), (2, .int a2), (3, .int a3), (4, .int a4), (5, .int a5), (6, .int a6), (7, .int a7), (8, .int a8)] [.int t0, va_rf t1] := by
  intro a0 a1 a2 a3 a4 a5 a6 a7 a8 t0 t1 S hF
  unfold fX6_would_j95 at hF
  refine g_iconst (v := (1 : Int32)) C dX6_would_95 rfl ?_
  refine g_iconst (v := (1 : Int32)) C dX6_would_96 rfl ?_
  obtain ⟨x1, S2, h, hF⟩ := gB_some hF
  obtain ⟨hi, h⟩ := gV_some h
  refine g_after (g_runV (n := 3) C dX6_would_97 rfl hi (mX6_bad C.2.2.2.2.2.2.2.2.2.2.2.1 t1 t0 (1 : Int32) (1 : Int32) S _ _ h) (lw_V q2183 q2185 qs46 q124 q2186) (by decide +kernel) ⟨by rw [hRf]; exact Nat.le_of_ble_eq_true rfl, by rw [hRl]; exact Nat.le_of_ble_eq_true rfl⟩ rfl rfl (gle gc_0 (by decide))) ?_
  refine g_if_eq C 105 dX6_would_100 rfl hF (fun c hF => ?_) (fun c hF => ?_)
  · refine g_aload_n C 0 dX6_would_105 rfl ?_
    refine g_iload_n C 1 dX6_would_106 rfl ?_
    refine g_iload_n C 2 dX6_would_107 rfl ?_
    refine g_iload_n C 3 dX6_would_108 rfl ?_
    refine g_iload C 4 dX6_would_109 rfl ?_
    refine g_iload C 5 dX6_would_111 rfl ?_
    refine g_iload C 6 dX6_would_113 rfl ?_
    refine g_iload C 7 dX6_would_115 rfl ?_
    refine g_iload C 8 dX6_would_117 rfl ?_
    obtain ⟨x3, S4, h, hF⟩ := gB_some hF
    obtain ⟨hi, h⟩ := gV_some h
    refine g_after (g_runV (n := 8) C dX6_would_119 rfl hi (mX6_breathBy C.2.2.2.2.2.2.2.2.2.2.2.1 a0 a1 a2 a3 a4 a5 a6 a7 a8 S2 _ _ h) (lw_V q2330 q2332 qs74 q124 q2333) (by decide +kernel) ⟨by rw [hRf]; exact Nat.le_of_ble_eq_true rfl, by rw [hRl]; exact Nat.le_of_ble_eq_true rfl⟩ rfl rfl (gle gc_0 (by decide))) ?_
    cases hF
    exact g_iret C dX6_would_122 rfl rfl
  · refine g_iconst (v := (0 : Int32)) C dX6_would_103 rfl ?_
    cases hF
    exact g_iret C dX6_would_104 rfl rfl
theorem wfX6_would_j90 {r : Int32} {S1 : gS} (C : gCx p l R s m args meth c D K RX6 cX6_would 9 (Option.some Jvm.ClassFile.FieldType.int) [] "would" u0) (hRf : R.frames = 5) (hRl : R.locals = 193) : ∀ (a0 : Option Nat) (a1 : Int32) (a2 : Int32) (a3 : Int32) (a4 : Int32) (a5 : Int32) (a6 : Int32) (a7 : Int32) (a8 : Int32) (t0 : Option Nat) (S : gS), fX6_would_j90 a0 a1 a2 a3 a4 a5 a6 a7 a8 t0 S = some (r, S1) → gW p l e R s m args below meth c D K 9 u0 (gEnd below args s D K u0 (.inl (some (.int r))) S1) S 90 [(0, va_rf a0), (1, .int a1), (2, .int a2), (3, .int a3), (4, .int a4), (5, .int a5), (6, .int a6), (7, .int a7), (8, .int a8)] [va_rf t0] := by
  intro a0 a1 a2 a3 a4 a5 a6 a7 a8 t0 S hF
  unfold fX6_would_j90 at hF
  refine g_iconst (v := (1 : Int32)) C dX6_would_90 rfl ?_
  refine g_goto C 95 dX6_would_91 rfl ?_
  exact g_sub [0, 1, 2, 3, 4, 5, 6, 7, 8] rfl (wfX6_would_j95 C hRf hRl a0 a1 a2 a3 a4 a5 a6 a7 a8 (1 : Int32) t0 S hF)
theorem mX6_would {l : Launch} {D : gD} {K : gK} (hl : l.stackTraces = false) : ∀ (p0 : Option Nat) (p1 : Int32) (p2 : Int32) (p3 : Int32) (p4 : Int32) (p5 : Int32) (p6 : Int32) (p7 : Int32) (p8 : Int32) (S : gS) (r : Int32) (S1 : gS), fX6_would p0 p1 p2 p3 p4 p5 p6 p7 p8 S = some (r, S1) → gMet l D K yX6_would (ws_ yX6_would cX6_would 9 (Option.some Jvm.ClassFile.FieldType.int)) 5 193 [va_rf p0, .int p1, .int p2, .int p3, .int p4, .int p5, .int p6, .int p7, .int p8] S (.inl (some (.int r))) S1 := by
  intro p0 p1 p2 p3 p4 p5 p6 p7 p8 S r S1 hF
  unfold fX6_would at hF
  refine gMet.of hl (by decide +kernel) rfl (gle (lgs_r (lgs_i (lgs_i (lgs_i (lgs_i (lgs_i (lgs_i (lgs_i (lgs_i lgs_0))))))))) (by decide)) (fun p e s m below meth c R hRf hRl C _ => ?_)
  generalize hargs : ([va_rf p0, .int p1, .int p2, .int p3, .int p4, .int p5, .int p6, .int p7, .int p8] : List Value).toArray = args at C ⊢
  generalize hu0 : S.2.2.1 = u0 at C ⊢
  rw [show lv_args 0 [va_rf p0, .int p1, .int p2, .int p3, .int p4, .int p5, .int p6, .int p7, .int p8] = [(0, va_rf p0), (1, .int p1), (2, .int p2), (3, .int p3), (4, .int p4), (5, .int p5), (6, .int p6), (7, .int p7), (8, .int p8)] from (lva_r rfl (lva_i rfl (lva_i rfl (lva_i rfl (lva_i rfl (lva_i rfl (lva_i rfl (lva_i rfl (lva_i rfl lva_0)))))))))]
  refine g_aload_n C 0 dX6_would_0 rfl ?_
  refine g_iconst (v := (0 : Int32)) C dX6_would_1 rfl ?_
  refine g_put C dX6_would_2 fd_44 (Or.inl q2028) (Or.inl rfl) pf_0 rfl rfl hF (fun S1 hF => ?_)
  refine g_aload_n C 0 dX6_would_5 rfl ?_
  refine g_iload_n C 1 dX6_would_6 rfl ?_
  refine g_iconst (v := (1 : Int32)) C dX6_would_7 rfl ?_
  refine g_bipush (v := (9 : Int32)) C dX6_would_8 rfl ?_
  refine g_after (g_runS (n := 3) C dX6_would_10 (mX6_in C.2.2.2.2.2.2.2.2.2.2.2.1 p1 (1 : Int32) (9 : Int32) S1 _ rfl) (lw_S q2180 q2181 q124 q2182) (by decide +kernel) ⟨by rw [hRf]; exact Nat.le_of_ble_eq_true rfl, by rw [hRl]; exact Nat.le_of_ble_eq_true rfl⟩ rfl rfl (gle (gc_r gc_0) (by decide))) ?_
  refine g_if_eq C 90 dX6_would_13 rfl hF (fun c hF => ?_) (fun c hF => ?_)
  · exact g_sub [0, 1, 2, 3, 4, 5, 6, 7, 8] rfl (wfX6_would_j90 C hRf hRl p0 p1 p2 p3 p4 p5 p6 p7 p8 p0 S1 hF)
  · refine g_iload_n C 2 dX6_would_16 rfl ?_
    refine g_iconst (v := (0 : Int32)) C dX6_would_17 rfl ?_
    refine g_bipush (v := (60 : Int32)) C dX6_would_18 rfl ?_
    refine g_after (g_runS (n := 3) C dX6_would_20 (mX6_in C.2.2.2.2.2.2.2.2.2.2.2.1 p2 (0 : Int32) (60 : Int32) S1 _ rfl) (lw_S q2180 q2181 q124 q2182) (by decide +kernel) ⟨by rw [hRf]; exact Nat.le_of_ble_eq_true rfl, by rw [hRl]; exact Nat.le_of_ble_eq_true rfl⟩ rfl rfl (gle (gc_r gc_0) (by decide))) ?_
    refine g_if_eq C 90 dX6_would_23 rfl hF (fun c hF => ?_) (fun c hF => ?_)
    · exact g_sub [0, 1, 2, 3, 4, 5, 6, 7, 8] rfl (wfX6_would_j90 C hRf hRl p0 p1 p2 p3 p4 p5 p6 p7 p8 p0 S1 hF)
    · refine g_iload_n C 3 dX6_would_26 rfl ?_
      refine g_iconst (v := (0 : Int32)) C dX6_would_27 rfl ?_
      refine g_bipush (v := (30 : Int32)) C dX6_would_28 rfl ?_
      refine g_after (g_runS (n := 3) C dX6_would_30 (mX6_in C.2.2.2.2.2.2.2.2.2.2.2.1 p3 (0 : Int32) (30 : Int32) S1 _ rfl) (lw_S q2180 q2181 q124 q2182) (by decide +kernel) ⟨by rw [hRf]; exact Nat.le_of_ble_eq_true rfl, by rw [hRl]; exact Nat.le_of_ble_eq_true rfl⟩ rfl rfl (gle (gc_r gc_0) (by decide))) ?_
      refine g_if_eq C 90 dX6_would_33 rfl hF (fun c hF => ?_) (fun c hF => ?_)
      · exact g_sub [0, 1, 2, 3, 4, 5, 6, 7, 8] rfl (wfX6_would_j90 C hRf hRl p0 p1 p2 p3 p4 p5 p6 p7 p8 p0 S1 hF)
      · refine g_iload C 4 dX6_would_36 rfl ?_
        refine g_iconst (v := (0 : Int32)) C dX6_would_38 rfl ?_
        refine g_sipush (v := (9999 : Int32)) C dX6_would_39 rfl ?_
        refine g_after (g_runS (n := 3) C dX6_would_42 (mX6_in C.2.2.2.2.2.2.2.2.2.2.2.1 p4 (0 : Int32) (9999 : Int32) S1 _ rfl) (lw_S q2180 q2181 q124 q2182) (by decide +kernel) ⟨by rw [hRf]; exact Nat.le_of_ble_eq_true rfl, by rw [hRl]; exact Nat.le_of_ble_eq_true rfl⟩ rfl rfl (gle (gc_r gc_0) (by decide))) ?_
        refine g_if_eq C 90 dX6_would_45 rfl hF (fun c hF => ?_) (fun c hF => ?_)
        · exact g_sub [0, 1, 2, 3, 4, 5, 6, 7, 8] rfl (wfX6_would_j90 C hRf hRl p0 p1 p2 p3 p4 p5 p6 p7 p8 p0 S1 hF)
        · refine g_iload C 5 dX6_would_48 rfl ?_
          refine g_iconst (v := (0 : Int32)) C dX6_would_50 rfl ?_
          refine g_bipush (v := (19 : Int32)) C dX6_would_51 rfl ?_
          refine g_after (g_runS (n := 3) C dX6_would_53 (mX6_in C.2.2.2.2.2.2.2.2.2.2.2.1 p5 (0 : Int32) (19 : Int32) S1 _ rfl) (lw_S q2180 q2181 q124 q2182) (by decide +kernel) ⟨by rw [hRf]; exact Nat.le_of_ble_eq_true rfl, by rw [hRl]; exact Nat.le_of_ble_eq_true rfl⟩ rfl rfl (gle (gc_r gc_0) (by decide))) ?_
          refine g_if_eq C 90 dX6_would_56 rfl hF (fun c hF => ?_) (fun c hF => ?_)
          · exact g_sub [0, 1, 2, 3, 4, 5, 6, 7, 8] rfl (wfX6_would_j90 C hRf hRl p0 p1 p2 p3 p4 p5 p6 p7 p8 p0 S1 hF)
          · refine g_iload C 6 dX6_would_59 rfl ?_
            obtain ⟨x2, h, hF⟩ := oB hF
            refine g_after (g_runS (n := 1) C dX6_would_61 (mX6_isVowel C.2.2.2.2.2.2.2.2.2.2.2.1 p6 S1 _ h) (lw_S q2410 q2411 q124 q2412) (by decide +kernel) ⟨by rw [hRf]; exact Nat.le_of_ble_eq_true rfl, by rw [hRl]; exact Nat.le_of_ble_eq_true rfl⟩ rfl rfl (gle (gc_r gc_0) (by decide))) ?_
            refine g_if_eq C 90 dX6_would_64 rfl hF (fun c hF => ?_) (fun c hF => ?_)
            · exact g_sub [0, 1, 2, 3, 4, 5, 6, 7, 8] rfl (wfX6_would_j90 C hRf hRl p0 p1 p2 p3 p4 p5 p6 p7 p8 p0 S1 hF)
            · refine g_iload C 7 dX6_would_67 rfl ?_
              refine g_iconst (v := (0 : Int32)) C dX6_would_69 rfl ?_
              refine g_sipush (v := (400 : Int32)) C dX6_would_70 rfl ?_
              refine g_after (g_runS (n := 3) C dX6_would_73 (mX6_in C.2.2.2.2.2.2.2.2.2.2.2.1 p7 (0 : Int32) (400 : Int32) S1 _ rfl) (lw_S q2180 q2181 q124 q2182) (by decide +kernel) ⟨by rw [hRf]; exact Nat.le_of_ble_eq_true rfl, by rw [hRl]; exact Nat.le_of_ble_eq_true rfl⟩ rfl rfl (gle (gc_r gc_0) (by decide))) ?_
              refine g_if_eq C 90 dX6_would_76 rfl hF (fun c hF => ?_) (fun c hF => ?_)
              · exact g_sub [0, 1, 2, 3, 4, 5, 6, 7, 8] rfl (wfX6_would_j90 C hRf hRl p0 p1 p2 p3 p4 p5 p6 p7 p8 p0 S1 hF)
              · refine g_iload C 8 dX6_would_79 rfl ?_
                refine g_iconst (v := (0 : Int32)) C dX6_would_81 rfl ?_
                refine g_bipush (v := (6 : Int32)) C dX6_would_82 rfl ?_
                refine g_after (g_runS (n := 3) C dX6_would_84 (mX6_in C.2.2.2.2.2.2.2.2.2.2.2.1 p8 (0 : Int32) (6 : Int32) S1 _ rfl) (lw_S q2180 q2181 q124 q2182) (by decide +kernel) ⟨by rw [hRf]; exact Nat.le_of_ble_eq_true rfl, by rw [hRl]; exact Nat.le_of_ble_eq_true rfl⟩ rfl rfl (gle (gc_r gc_0) (by decide))) ?_
                refine g_if_ne C 94 dX6_would_87 rfl hF (fun c hF => ?_) (fun c hF => ?_)
                · refine g_iconst (v := (0 : Int32)) C dX6_would_94 rfl ?_
                  exact g_sub [0, 1, 2, 3, 4, 5, 6, 7, 8] rfl (wfX6_would_j95 C hRf hRl p0 p1 p2 p3 p4 p5 p6 p7 p8 (0 : Int32) p0 S1 hF)
                · exact g_sub [0, 1, 2, 3, 4, 5, 6, 7, 8] rfl (wfX6_would_j90 C hRf hRl p0 p1 p2 p3 p4 p5 p6 p7 p8 p0 S1 hF)
/-! VowelChoirModel.ahead(II)I -/
def fX6_ahead_i77 (ih : (Option Nat) → (Int32) → (Int32) → (Int32) → gS → Option (Int32 × gS)) (a0 : Option Nat) (a2 : Int32) (a3 : Int32) (a4 : Int32) (S : gS) : Option (Int32 × gS) :=
  (oGetR [3] 12 a0 S).bind fun x1 =>
  (oLdI 0 x1 (0 : Int32) S).bind fun x2 =>
  (if x2 ≤ a4 then
  (if a2 = 0 then
  (oGetR [3] 30 a0 S).bind fun x5 =>
  (oLdI 0 x5 (55 : Int32) S).bind fun x6 =>
  (oGetR [3] 29 a0 S).bind fun x7 =>
  (oLdI 0 x7 (55 : Int32) S).bind fun x8 =>
  some (x6 - x8, S)
  else
  (if a2 = (1 : Int32) then
  (oGetR [3] 30 a0 S).bind fun x3 =>
  (gV [3] a0 S (fX6_all a0 x3 (0 : Int32) S)).bind fun x4 =>
  some (x4, S)
  else
  some (a3, S)))
  else
  (oGetR [3] 30 a0 S).bind fun x9 =>
  (oLdI 0 x9 ((0 : Int32) + a4) S).bind fun x10 =>
  (if x10 = 0 then
  ih a0 a2 (a3 ||| ((1 : Int32) <<< (a4 &&& 31))) (a4 + (1 : Int32)) S
  else
  ih a0 a2 (a3 ||| (0 : Int32)) (a4 + (1 : Int32)) S))
def fX6_ahead_l77 : Nat → (Option Nat) → (Int32) → (Int32) → (Int32) → gS → Option (Int32 × gS)
  | 0 => fun _ _ _ _ _ => none
  | n + 1 => fun a0 a2 a3 a4 S => fX6_ahead_i77 (fX6_ahead_l77 n) a0 a2 a3 a4 S
def fX6_ahead_i53 (ih : (Option Nat) → (Int32) → (Int32) → (Int32) → gS → Option (Int32 × gS)) (a0 : Option Nat) (a1 : Int32) (a2 : Int32) (a3 : Int32) (S : gS) : Option (Int32 × gS) :=
  (if a1 ≤ a3 then
  fX6_ahead_l77 gFU a0 a2 (0 : Int32) (0 : Int32) S
  else
  (oGetR [3] 30 a0 S).bind fun x1 =>
  gB (gV [3] a0 S (fX6_hymns a0 x1 S)) fun x2 S3 =>
  ih a0 a1 a2 (a3 + (1 : Int32)) S3)
def fX6_ahead_l53 : Nat → (Option Nat) → (Int32) → (Int32) → (Int32) → gS → Option (Int32 × gS)
  | 0 => fun _ _ _ _ _ => none
  | n + 1 => fun a0 a1 a2 a3 S => fX6_ahead_i53 (fX6_ahead_l53 n) a0 a1 a2 a3 S
def fX6_ahead_j30 (a0 : Option Nat) (a1 : Int32) (a2 : Int32) (t0 : Int32) (t1 : Option Nat) (S : gS) : Option (Int32 × gS) :=
  gB (gV [3] t1 S (fX6_bad t1 t0 (1 : Int32) (1 : Int32) S)) fun x1 S2 =>
  (if x1 = 0 then
  (oGetR [3] 29 a0 S2).bind fun x3 =>
  (oGetR [3] 30 a0 S2).bind fun x4 =>
  gB (fX6_copies x3 x4 S2) fun x5 S6 =>
  fX6_ahead_l53 gFU a0 a1 a2 (0 : Int32) S6
  else
  some ((0 : Int32), S2))
def fX6_ahead_j25 (a0 : Option Nat) (a1 : Int32) (a2 : Int32) (t0 : Option Nat) (S : gS) : Option (Int32 × gS) :=
  fX6_ahead_j30 a0 a1 a2 (1 : Int32) t0 S
def fX6_ahead (p0 : Option Nat) (p1 : Int32) (p2 : Int32) (S : gS) : Option (Int32 × gS) :=
  (oPut [3] 0 p0 (.int ((0 : Int32))) S).bind fun S1 =>
  (if (fX6_in p1 (0 : Int32) (20 : Int32)) = 0 then
  fX6_ahead_j25 p0 p1 p2 p0 S1
  else
  (if (fX6_in p2 (0 : Int32) (2 : Int32)) = 0 then
  fX6_ahead_j25 p0 p1 p2 p0 S1
  else
  fX6_ahead_j30 p0 p1 p2 (0 : Int32) p0 S1))
theorem wfX6_ahead_l77 {r : Int32} {S1 : gS} (C : gCx p l R s m args meth c D K RX6 cX6_ahead 5 (Option.some Jvm.ClassFile.FieldType.int) [] "ahead" u0) (hRf : R.frames = 9) (hRl : R.locals = 285) : ∀ (n : Nat) (a0 : Option Nat) (a2 : Int32) (a3 : Int32) (a4 : Int32) (S : gS), fX6_ahead_l77 n a0 a2 a3 a4 S = some (r, S1) → gW p l e R s m args below meth c D K 5 u0 (gEnd below args s D K u0 (.inl (some (.int r))) S1) S 77 [(0, va_rf a0), (2, .int a2), (3, .int a3), (4, .int a4)] [] := by
  intro n
  induction n with
  | zero => intro a0 a2 a3 a4 S hF; cases hF
  | succ n hih =>
    intro a0 a2 a3 a4 S hF
    have hF : fX6_ahead_i77 (fX6_ahead_l77 n) a0 a2 a3 a4 S = some (r, S1) := hF
    revert hF hih
    generalize fX6_ahead_l77 n = ih
    intro hih hF
    unfold fX6_ahead_i77 at hF
    refine g_iload C 3 dX6_ahead_77 rfl ?_
    refine g_aload_n C 0 dX6_ahead_79 rfl ?_
    refine g_getR C dX6_ahead_80 fd_15 (Or.inl q2040) (Or.inl rfl) hF (fun x1 hF => ?_)
    refine g_iconst (v := (0 : Int32)) C dX6_ahead_83 rfl ?_
    refine g_iald C dX6_ahead_84 hF (fun x2 hF => ?_)
    refine g_icmp_ge C 117 dX6_ahead_85 rfl hF (fun c hF => ?_) (fun c hF => ?_)
    · refine g_iload_n C 1 dX6_ahead_117 rfl ?_
      refine g_if_ne C 139 dX6_ahead_118 rfl hF (fun c hF => ?_) (fun c hF => ?_)
      · refine g_iload_n C 1 dX6_ahead_139 rfl ?_
        refine g_iconst (v := (1 : Int32)) C dX6_ahead_140 rfl ?_
        refine g_icmp_ne C 156 dX6_ahead_141 rfl hF (fun c hF => ?_) (fun c hF => ?_)
        · refine g_iload_n C 2 dX6_ahead_156 rfl ?_
          cases hF
          exact g_iret C dX6_ahead_157 rfl rfl
        · refine g_aload_n C 0 dX6_ahead_144 rfl ?_
          refine g_aload_n C 0 dX6_ahead_145 rfl ?_
          refine g_getR C dX6_ahead_146 fd_38 (Or.inl q2058) (Or.inl rfl) hF (fun x3 hF => ?_)
          refine g_iconst (v := (0 : Int32)) C dX6_ahead_149 rfl ?_
          obtain ⟨x4, h, hF⟩ := oB hF
          obtain ⟨hi, h⟩ := gV_some h
          refine g_after (g_runV (n := 2) C dX6_ahead_150 rfl hi (mX6_all C.2.2.2.2.2.2.2.2.2.2.2.1 a0 x3 (0 : Int32) S _ h) (lw_V q2378 q2380 qs81 q124 q2381) (by decide +kernel) ⟨by rw [hRf]; exact Nat.le_of_ble_eq_true rfl, by rw [hRl]; exact Nat.le_of_ble_eq_true rfl⟩ rfl rfl (gle gc_0 (by decide))) ?_
          refine g_goto C 157 dX6_ahead_153 rfl ?_
          cases hF
          exact g_iret C dX6_ahead_157 rfl rfl
      · refine g_aload_n C 0 dX6_ahead_121 rfl ?_
        refine g_getR C dX6_ahead_122 fd_38 (Or.inl q2058) (Or.inl rfl) hF (fun x5 hF => ?_)
        refine g_bipush (v := (55 : Int32)) C dX6_ahead_125 rfl ?_
        refine g_iald C dX6_ahead_127 hF (fun x6 hF => ?_)
        refine g_aload_n C 0 dX6_ahead_128 rfl ?_
        refine g_getR C dX6_ahead_129 fd_22 (Or.inl q2057) (Or.inl rfl) hF (fun x7 hF => ?_)
        refine g_bipush (v := (55 : Int32)) C dX6_ahead_132 rfl ?_
        refine g_iald C dX6_ahead_134 hF (fun x8 hF => ?_)
        refine g_isub C dX6_ahead_135 ?_
        refine g_goto C 157 dX6_ahead_136 rfl ?_
        cases hF
        exact g_iret C dX6_ahead_157 rfl rfl
    · refine g_iload_n C 2 dX6_ahead_88 rfl ?_
      refine g_aload_n C 0 dX6_ahead_89 rfl ?_
      refine g_getR C dX6_ahead_90 fd_38 (Or.inl q2058) (Or.inl rfl) hF (fun x9 hF => ?_)
      refine g_iconst (v := (0 : Int32)) C dX6_ahead_93 rfl ?_
      refine g_iload C 3 dX6_ahead_94 rfl ?_
      refine g_iadd C dX6_ahead_96 ?_
      refine g_iald C dX6_ahead_97 hF (fun x10 hF => ?_)
      refine g_if_ne C 108 dX6_ahead_98 rfl hF (fun c hF => ?_) (fun c hF => ?_)
      · refine g_iconst (v := (0 : Int32)) C dX6_ahead_108 rfl ?_
        refine g_ior C dX6_ahead_109 ?_
        refine g_istore_n C dX6_ahead_110 (by decide) rfl ?_
        refine g_iinc (v := (1 : Int32)) C 3 dX6_ahead_111 rfl rfl (by decide) rfl ?_
        refine g_goto C 77 dX6_ahead_114 rfl ?_
        exact g_sub [2, 3, 1, 0] rfl (hih a0 a2 (a3 ||| (0 : Int32)) (a4 + (1 : Int32)) S hF)
      · refine g_iconst (v := (1 : Int32)) C dX6_ahead_101 rfl ?_
        refine g_iload C 3 dX6_ahead_102 rfl ?_
        refine g_ishl C dX6_ahead_104 ?_
        refine g_goto C 109 dX6_ahead_105 rfl ?_
        refine g_ior C dX6_ahead_109 ?_
        refine g_istore_n C dX6_ahead_110 (by decide) rfl ?_
        refine g_iinc (v := (1 : Int32)) C 3 dX6_ahead_111 rfl rfl (by decide) rfl ?_
        refine g_goto C 77 dX6_ahead_114 rfl ?_
        exact g_sub [2, 3, 1, 0] rfl (hih a0 a2 (a3 ||| ((1 : Int32) <<< (a4 &&& 31))) (a4 + (1 : Int32)) S hF)
theorem wfX6_ahead_l53 {r : Int32} {S1 : gS} (C : gCx p l R s m args meth c D K RX6 cX6_ahead 5 (Option.some Jvm.ClassFile.FieldType.int) [] "ahead" u0) (hRf : R.frames = 9) (hRl : R.locals = 285) : ∀ (n : Nat) (a0 : Option Nat) (a1 : Int32) (a2 : Int32) (a3 : Int32) (S : gS), fX6_ahead_l53 n a0 a1 a2 a3 S = some (r, S1) → gW p l e R s m args below meth c D K 5 u0 (gEnd below args s D K u0 (.inl (some (.int r))) S1) S 53 [(0, va_rf a0), (1, .int a1), (2, .int a2), (3, .int a3)] [] := by
  intro n
  induction n with
  | zero => intro a0 a1 a2 a3 S hF; cases hF
  | succ n hih =>
    intro a0 a1 a2 a3 S hF
    have hF : fX6_ahead_i53 (fX6_ahead_l53 n) a0 a1 a2 a3 S = some (r, S1) := hF
    revert hF hih
    generalize fX6_ahead_l53 n = ih
    intro hih hF
    unfold fX6_ahead_i53 at hF
    refine g_iload_n C 3 dX6_ahead_53 rfl ?_
    refine g_iload_n C 1 dX6_ahead_54 rfl ?_
    refine g_icmp_ge C 72 dX6_ahead_55 rfl hF (fun c hF => ?_) (fun c hF => ?_)
    · refine g_iconst (v := (0 : Int32)) C dX6_ahead_72 rfl ?_
      refine g_istore_n C dX6_ahead_73 (by decide) rfl ?_
      refine g_iconst (v := (0 : Int32)) C dX6_ahead_74 rfl ?_
      refine g_istore C dX6_ahead_75 (by decide) rfl ?_
      exact g_sub [2, 4, 1, 0] rfl (wfX6_ahead_l77 C hRf hRl gFU a0 a2 (0 : Int32) (0 : Int32) S hF)
    · refine g_aload_n C 0 dX6_ahead_58 rfl ?_
      refine g_aload_n C 0 dX6_ahead_59 rfl ?_
      refine g_getR C dX6_ahead_60 fd_38 (Or.inl q2058) (Or.inl rfl) hF (fun x1 hF => ?_)
      obtain ⟨x2, S3, h, hF⟩ := gB_some hF
      obtain ⟨hi, h⟩ := gV_some h
      refine g_after (g_runV (n := 1) C dX6_ahead_63 rfl hi (mX6_hymns C.2.2.2.2.2.2.2.2.2.2.2.1 a0 x1 S _ _ h) (lw_V q2347 q2349 qs76 q124 q2350) (by decide +kernel) ⟨by rw [hRf]; exact Nat.le_of_ble_eq_true rfl, by rw [hRl]; exact Nat.le_of_ble_eq_true rfl⟩ rfl rfl (gle gc_0 (by decide))) ?_
      refine g_iinc (v := (1 : Int32)) C 3 dX6_ahead_66 rfl rfl (by decide) rfl ?_
      refine g_goto C 53 dX6_ahead_69 rfl ?_
      exact g_sub [1, 2, 3, 0] rfl (hih a0 a1 a2 (a3 + (1 : Int32)) S3 hF)
theorem wfX6_ahead_j30 {r : Int32} {S1 : gS} (C : gCx p l R s m args meth c D K RX6 cX6_ahead 5 (Option.some Jvm.ClassFile.FieldType.int) [] "ahead" u0) (hRf : R.frames = 9) (hRl : R.locals = 285) : ∀ (a0 : Option Nat) (a1 : Int32) (a2 : Int32) (t0 : Int32) (t1 : Option Nat) (S : gS), fX6_ahead_j30 a0 a1 a2 t0 t1 S = some (r, S1) → gW p l e R s m args below meth c D K 5 u0 (gEnd below args s D K u0 (.inl (some (.int r))) S1) S 30 [(0, va_rf a0), (1, .int a1), (2, .int a2)] [.int t0, va_rf t1] := by
  intro a0 a1 a2 t0 t1 S hF
  unfold fX6_ahead_j30 at hF
  refine g_iconst (v := (1 : Int32)) C dX6_ahead_30 rfl ?_
  refine g_iconst (v := (1 : Int32)) C dX6_ahead_31 rfl ?_
  obtain ⟨x1, S2, h, hF⟩ := gB_some hF
  obtain ⟨hi, h⟩ := gV_some h
  refine g_after (g_runV (n := 3) C dX6_ahead_32 rfl hi (mX6_bad C.2.2.2.2.2.2.2.2.2.2.2.1 t1 t0 (1 : Int32) (1 : Int32) S _ _ h) (lw_V q2183 q2185 qs46 q124 q2186) (by decide +kernel) ⟨by rw [hRf]; exact Nat.le_of_ble_eq_true rfl, by rw [hRl]; exact Nat.le_of_ble_eq_true rfl⟩ rfl rfl (gle gc_0 (by decide))) ?_
  refine g_if_eq C 40 dX6_ahead_35 rfl hF (fun c hF => ?_) (fun c hF => ?_)
  · refine g_aload_n C 0 dX6_ahead_40 rfl ?_
    refine g_getR C dX6_ahead_41 fd_22 (Or.inl q2057) (Or.inl rfl) hF (fun x3 hF => ?_)
    refine g_aload_n C 0 dX6_ahead_44 rfl ?_
    refine g_getR C dX6_ahead_45 fd_38 (Or.inl q2058) (Or.inl rfl) hF (fun x4 hF => ?_)
    obtain ⟨x5, S6, h, hF⟩ := gB_some hF
    refine g_after (g_runS (n := 2) C dX6_ahead_48 (mX6_copies C.2.2.2.2.2.2.2.2.2.2.2.1 x3 x4 S2 _ _ h) (lw_S q2307 q2308 q124 q2309) (by decide +kernel) ⟨by rw [hRf]; exact Nat.le_of_ble_eq_true rfl, by rw [hRl]; exact Nat.le_of_ble_eq_true rfl⟩ rfl rfl (gle gc_0 (by decide))) ?_
    refine g_iconst (v := (0 : Int32)) C dX6_ahead_51 rfl ?_
    refine g_istore_n C dX6_ahead_52 (by decide) rfl ?_
    exact g_sub [1, 2, 3, 0] rfl (wfX6_ahead_l53 C hRf hRl gFU a0 a1 a2 (0 : Int32) S6 hF)
  · refine g_iconst (v := (0 : Int32)) C dX6_ahead_38 rfl ?_
    cases hF
    exact g_iret C dX6_ahead_39 rfl rfl
theorem wfX6_ahead_j25 {r : Int32} {S1 : gS} (C : gCx p l R s m args meth c D K RX6 cX6_ahead 5 (Option.some Jvm.ClassFile.FieldType.int) [] "ahead" u0) (hRf : R.frames = 9) (hRl : R.locals = 285) : ∀ (a0 : Option Nat) (a1 : Int32) (a2 : Int32) (t0 : Option Nat) (S : gS), fX6_ahead_j25 a0 a1 a2 t0 S = some (r, S1) → gW p l e R s m args below meth c D K 5 u0 (gEnd below args s D K u0 (.inl (some (.int r))) S1) S 25 [(0, va_rf a0), (1, .int a1), (2, .int a2)] [va_rf t0] := by
  intro a0 a1 a2 t0 S hF
  unfold fX6_ahead_j25 at hF
  refine g_iconst (v := (1 : Int32)) C dX6_ahead_25 rfl ?_
  refine g_goto C 30 dX6_ahead_26 rfl ?_
  exact g_sub [0, 1, 2] rfl (wfX6_ahead_j30 C hRf hRl a0 a1 a2 (1 : Int32) t0 S hF)
theorem mX6_ahead {l : Launch} {D : gD} {K : gK} (hl : l.stackTraces = false) : ∀ (p0 : Option Nat) (p1 : Int32) (p2 : Int32) (S : gS) (r : Int32) (S1 : gS), fX6_ahead p0 p1 p2 S = some (r, S1) → gMet l D K yX6_ahead (ws_ yX6_ahead cX6_ahead 5 (Option.some Jvm.ClassFile.FieldType.int)) 9 285 [va_rf p0, .int p1, .int p2] S (.inl (some (.int r))) S1 := by
  intro p0 p1 p2 S r S1 hF
  unfold fX6_ahead at hF
  refine gMet.of hl (by decide +kernel) rfl (gle (lgs_r (lgs_i (lgs_i lgs_0))) (by decide)) (fun p e s m below meth c R hRf hRl C _ => ?_)
  generalize hargs : ([va_rf p0, .int p1, .int p2] : List Value).toArray = args at C ⊢
  generalize hu0 : S.2.2.1 = u0 at C ⊢
  rw [show lv_args 0 [va_rf p0, .int p1, .int p2] = [(0, va_rf p0), (1, .int p1), (2, .int p2)] from (lva_r rfl (lva_i rfl (lva_i rfl lva_0)))]
  refine g_aload_n C 0 dX6_ahead_0 rfl ?_
  refine g_iconst (v := (0 : Int32)) C dX6_ahead_1 rfl ?_
  refine g_put C dX6_ahead_2 fd_44 (Or.inl q2028) (Or.inl rfl) pf_0 rfl rfl hF (fun S1 hF => ?_)
  refine g_aload_n C 0 dX6_ahead_5 rfl ?_
  refine g_iload_n C 1 dX6_ahead_6 rfl ?_
  refine g_iconst (v := (0 : Int32)) C dX6_ahead_7 rfl ?_
  refine g_bipush (v := (20 : Int32)) C dX6_ahead_8 rfl ?_
  refine g_after (g_runS (n := 3) C dX6_ahead_10 (mX6_in C.2.2.2.2.2.2.2.2.2.2.2.1 p1 (0 : Int32) (20 : Int32) S1 _ rfl) (lw_S q2180 q2181 q124 q2182) (by decide +kernel) ⟨by rw [hRf]; exact Nat.le_of_ble_eq_true rfl, by rw [hRl]; exact Nat.le_of_ble_eq_true rfl⟩ rfl rfl (gle (gc_r gc_0) (by decide))) ?_
  refine g_if_eq C 25 dX6_ahead_13 rfl hF (fun c hF => ?_) (fun c hF => ?_)
  · exact g_sub [0, 1, 2] rfl (wfX6_ahead_j25 C hRf hRl p0 p1 p2 p0 S1 hF)
  · refine g_iload_n C 2 dX6_ahead_16 rfl ?_
    refine g_iconst (v := (0 : Int32)) C dX6_ahead_17 rfl ?_
    refine g_iconst (v := (2 : Int32)) C dX6_ahead_18 rfl ?_
    refine g_after (g_runS (n := 3) C dX6_ahead_19 (mX6_in C.2.2.2.2.2.2.2.2.2.2.2.1 p2 (0 : Int32) (2 : Int32) S1 _ rfl) (lw_S q2180 q2181 q124 q2182) (by decide +kernel) ⟨by rw [hRf]; exact Nat.le_of_ble_eq_true rfl, by rw [hRl]; exact Nat.le_of_ble_eq_true rfl⟩ rfl rfl (gle (gc_r gc_0) (by decide))) ?_
    refine g_if_ne C 29 dX6_ahead_22 rfl hF (fun c hF => ?_) (fun c hF => ?_)
    · refine g_iconst (v := (0 : Int32)) C dX6_ahead_29 rfl ?_
      exact g_sub [0, 1, 2] rfl (wfX6_ahead_j30 C hRf hRl p0 p1 p2 (0 : Int32) p0 S1 hF)
    · exact g_sub [0, 1, 2] rfl (wfX6_ahead_j25 C hRf hRl p0 p1 p2 p0 S1 hF)
/-! VowelChoirModel.everySinger()I -/
def fX6_everySinger (p0 : Option Nat) (S : gS) : Option Int32 :=
  (oGetR [3] 12 p0 S).bind fun x1 =>
  (oLdI 0 x1 (0 : Int32) S).bind fun x2 =>
  some (((1 : Int32) <<< (x2 &&& 31)) - (1 : Int32))
theorem mX6_everySinger {l : Launch} {D : gD} {K : gK} (hl : l.stackTraces = false) : ∀ (p0 : Option Nat) (S : gS) (r : Int32), fX6_everySinger p0 S = some r → gMet l D K yX6_everySinger (ws_ yX6_everySinger cX6_everySinger 1 (Option.some Jvm.ClassFile.FieldType.int)) 1 100 [va_rf p0] S (.inl (some (.int r))) S := by
  intro p0 S r hF
  unfold fX6_everySinger at hF
  refine gMet.of hl (by decide +kernel) rfl (gle (lgs_r lgs_0) (by decide)) (fun p e s m below meth c R hRf hRl C _ => ?_)
  generalize hargs : ([va_rf p0] : List Value).toArray = args at C ⊢
  generalize hu0 : S.2.2.1 = u0 at C ⊢
  rw [show lv_args 0 [va_rf p0] = [(0, va_rf p0)] from (lva_r rfl lva_0)]
  refine g_iconst (v := (1 : Int32)) C dX6_everySinger_0 rfl ?_
  refine g_aload_n C 0 dX6_everySinger_1 rfl ?_
  refine g_getR C dX6_everySinger_2 fd_15 (Or.inl q2040) (Or.inl rfl) hF (fun x1 hF => ?_)
  refine g_iconst (v := (0 : Int32)) C dX6_everySinger_5 rfl ?_
  refine g_iald C dX6_everySinger_6 hF (fun x2 hF => ?_)
  refine g_ishl C dX6_everySinger_7 ?_
  refine g_iconst (v := (1 : Int32)) C dX6_everySinger_8 rfl ?_
  refine g_isub C dX6_everySinger_9 ?_
  cases hF
  exact g_iret C dX6_everySinger_10 rfl rfl
/-! VowelChoirModel.ones(I)I -/
def fX6_ones_i4 (ih : (Int32) → (Int32) → (Int32) → gS → Option Int32) (a0 : Int32) (a1 : Int32) (a2 : Int32) (S : gS) : Option Int32 :=
  (if (7 : Int32) ≤ a2 then
  some a1
  else
  ih a0 (a1 + ((a0 >>> (a2 &&& 31)) &&& (1 : Int32))) (a2 + (1 : Int32)) S)
def fX6_ones_l4 : Nat → (Int32) → (Int32) → (Int32) → gS → Option Int32
  | 0 => fun _ _ _ _ => none
  | n + 1 => fun a0 a1 a2 S => fX6_ones_i4 (fX6_ones_l4 n) a0 a1 a2 S
def fX6_ones (p0 : Int32) (S : gS) : Option Int32 :=
  fX6_ones_l4 gFU p0 (0 : Int32) (0 : Int32) S
theorem wfX6_ones_l4 {r : Int32} (C : gCx p l R s m args meth c D K RX6 cX6_ones 3 (Option.some Jvm.ClassFile.FieldType.int) [] "ones" u0) (hRf : R.frames = 1) (hRl : R.locals = 100) : ∀ (n : Nat) (a0 : Int32) (a1 : Int32) (a2 : Int32) (S : gS), fX6_ones_l4 n a0 a1 a2 S = some r → gW p l e R s m args below meth c D K 3 u0 (gEnd below args s D K u0 (.inl (some (.int r))) S) S 4 [(0, .int a0), (1, .int a1), (2, .int a2)] [] := by
  intro n
  induction n with
  | zero => intro a0 a1 a2 S hF; cases hF
  | succ n hih =>
    intro a0 a1 a2 S hF
    have hF : fX6_ones_i4 (fX6_ones_l4 n) a0 a1 a2 S = some r := hF
    revert hF hih
    generalize fX6_ones_l4 n = ih
    intro hih hF
    unfold fX6_ones_i4 at hF
    refine g_iload_n C 2 dX6_ones_4 rfl ?_
    refine g_bipush (v := (7 : Int32)) C dX6_ones_5 rfl ?_
    refine g_icmp_ge C 24 dX6_ones_7 rfl hF (fun c hF => ?_) (fun c hF => ?_)
    · refine g_iload_n C 1 dX6_ones_24 rfl ?_
      cases hF
      exact g_iret C dX6_ones_25 rfl rfl
    · refine g_iload_n C 1 dX6_ones_10 rfl ?_
      refine g_iload_n C 0 dX6_ones_11 rfl ?_
      refine g_iload_n C 2 dX6_ones_12 rfl ?_
      refine g_ishr C dX6_ones_13 ?_
      refine g_iconst (v := (1 : Int32)) C dX6_ones_14 rfl ?_
      refine g_iand C dX6_ones_15 ?_
      refine g_iadd C dX6_ones_16 ?_
      refine g_istore_n C dX6_ones_17 (by decide) rfl ?_
      refine g_iinc (v := (1 : Int32)) C 2 dX6_ones_18 rfl rfl (by decide) rfl ?_
      refine g_goto C 4 dX6_ones_21 rfl ?_
      exact g_sub [2, 1, 0] rfl (hih a0 (a1 + ((a0 >>> (a2 &&& 31)) &&& (1 : Int32))) (a2 + (1 : Int32)) S hF)
theorem mX6_ones {l : Launch} {D : gD} {K : gK} (hl : l.stackTraces = false) : ∀ (p0 : Int32) (S : gS) (r : Int32), fX6_ones p0 S = some r → gMet l D K yX6_ones (ws_ yX6_ones cX6_ones 3 (Option.some Jvm.ClassFile.FieldType.int)) 1 100 [.int p0] S (.inl (some (.int r))) S := by
  intro p0 S r hF
  unfold fX6_ones at hF
  refine gMet.of hl (by decide +kernel) rfl (gle (lgs_i lgs_0) (by decide)) (fun p e s m below meth c R hRf hRl C _ => ?_)
  generalize hargs : ([.int p0] : List Value).toArray = args at C ⊢
  generalize hu0 : S.2.2.1 = u0 at C ⊢
  rw [show lv_args 0 [.int p0] = [(0, .int p0)] from (lva_i rfl lva_0)]
  refine g_iconst (v := (0 : Int32)) C dX6_ones_0 rfl ?_
  refine g_istore_n C dX6_ones_1 (by decide) rfl ?_
  refine g_iconst (v := (0 : Int32)) C dX6_ones_2 rfl ?_
  refine g_istore_n C dX6_ones_3 (by decide) rfl ?_
  exact g_sub [2, 1, 0] rfl (wfX6_ones_l4 C hRf hRl gFU p0 (0 : Int32) (0 : Int32) S hF)
/-! VowelChoirModel.payOf(I)I -/
def fX6_payOf_i4 (ih : (Option Nat) → (Int32) → (Int32) → (Int32) → gS → Option Int32) (a0 : Option Nat) (a1 : Int32) (a2 : Int32) (a3 : Int32) (S : gS) : Option Int32 :=
  (oGetR [3] 12 a0 S).bind fun x1 =>
  (oLdI 0 x1 (0 : Int32) S).bind fun x2 =>
  (if x2 ≤ a3 then
  some a2
  else
  (if (fX6_has a1 a3) = 0 then
  ih a0 a1 (a2 + (0 : Int32)) (a3 + (1 : Int32)) S
  else
  (oGetR [3] 14 a0 S).bind fun x3 =>
  (oLdR 5 x3 a3 S).bind fun x4 =>
  (oLdI 0 x4 (1 : Int32) S).bind fun x5 =>
  ih a0 a1 (a2 + x5) (a3 + (1 : Int32)) S))
def fX6_payOf_l4 : Nat → (Option Nat) → (Int32) → (Int32) → (Int32) → gS → Option Int32
  | 0 => fun _ _ _ _ _ => none
  | n + 1 => fun a0 a1 a2 a3 S => fX6_payOf_i4 (fX6_payOf_l4 n) a0 a1 a2 a3 S
def fX6_payOf (p0 : Option Nat) (p1 : Int32) (S : gS) : Option Int32 :=
  fX6_payOf_l4 gFU p0 p1 (0 : Int32) (0 : Int32) S
theorem wfX6_payOf_l4 {r : Int32} (C : gCx p l R s m args meth c D K RX6 cX6_payOf 4 (Option.some Jvm.ClassFile.FieldType.int) [] "payOf" u0) (hRf : R.frames = 2) (hRl : R.locals = 121) : ∀ (n : Nat) (a0 : Option Nat) (a1 : Int32) (a2 : Int32) (a3 : Int32) (S : gS), fX6_payOf_l4 n a0 a1 a2 a3 S = some r → gW p l e R s m args below meth c D K 4 u0 (gEnd below args s D K u0 (.inl (some (.int r))) S) S 4 [(0, va_rf a0), (1, .int a1), (2, .int a2), (3, .int a3)] [] := by
  intro n
  induction n with
  | zero => intro a0 a1 a2 a3 S hF; cases hF
  | succ n hih =>
    intro a0 a1 a2 a3 S hF
    have hF : fX6_payOf_i4 (fX6_payOf_l4 n) a0 a1 a2 a3 S = some r := hF
    revert hF hih
    generalize fX6_payOf_l4 n = ih
    intro hih hF
    unfold fX6_payOf_i4 at hF
    refine g_iload_n C 3 dX6_payOf_4 rfl ?_
    refine g_aload_n C 0 dX6_payOf_5 rfl ?_
    refine g_getR C dX6_payOf_6 fd_15 (Or.inl q2040) (Or.inl rfl) hF (fun x1 hF => ?_)
    refine g_iconst (v := (0 : Int32)) C dX6_payOf_9 rfl ?_
    refine g_iald C dX6_payOf_10 hF (fun x2 hF => ?_)
    refine g_icmp_ge C 43 dX6_payOf_11 rfl hF (fun c hF => ?_) (fun c hF => ?_)
    · refine g_iload_n C 2 dX6_payOf_43 rfl ?_
      cases hF
      exact g_iret C dX6_payOf_44 rfl rfl
    · refine g_iload_n C 2 dX6_payOf_14 rfl ?_
      refine g_iload_n C 1 dX6_payOf_15 rfl ?_
      refine g_iload_n C 3 dX6_payOf_16 rfl ?_
      refine g_after (g_runS (n := 2) C dX6_payOf_17 (mX6_has C.2.2.2.2.2.2.2.2.2.2.2.1 a1 a3 S _ rfl) (lw_S q2288 q2289 q124 q2290) (by decide +kernel) ⟨by rw [hRf]; exact Nat.le_of_ble_eq_true rfl, by rw [hRl]; exact Nat.le_of_ble_eq_true rfl⟩ rfl rfl (gle (gc_i gc_0) (by decide))) ?_
      refine g_if_eq C 34 dX6_payOf_20 rfl hF (fun c hF => ?_) (fun c hF => ?_)
      · refine g_iconst (v := (0 : Int32)) C dX6_payOf_34 rfl ?_
        refine g_iadd C dX6_payOf_35 ?_
        refine g_istore_n C dX6_payOf_36 (by decide) rfl ?_
        refine g_iinc (v := (1 : Int32)) C 3 dX6_payOf_37 rfl rfl (by decide) rfl ?_
        refine g_goto C 4 dX6_payOf_40 rfl ?_
        exact g_sub [2, 3, 1, 0] rfl (hih a0 a1 (a2 + (0 : Int32)) (a3 + (1 : Int32)) S hF)
      · refine g_aload_n C 0 dX6_payOf_23 rfl ?_
        refine g_getR C dX6_payOf_24 fd_16 (Or.inl q2042) (Or.inl rfl) hF (fun x3 hF => ?_)
        refine g_iload_n C 3 dX6_payOf_27 rfl ?_
        refine g_aald C (kd := 5) rfl dX6_payOf_28 hF (fun x4 hF => ?_)
        refine g_iconst (v := (1 : Int32)) C dX6_payOf_29 rfl ?_
        refine g_iald C dX6_payOf_30 hF (fun x5 hF => ?_)
        refine g_goto C 35 dX6_payOf_31 rfl ?_
        refine g_iadd C dX6_payOf_35 ?_
        refine g_istore_n C dX6_payOf_36 (by decide) rfl ?_
        refine g_iinc (v := (1 : Int32)) C 3 dX6_payOf_37 rfl rfl (by decide) rfl ?_
        refine g_goto C 4 dX6_payOf_40 rfl ?_
        exact g_sub [2, 3, 1, 0] rfl (hih a0 a1 (a2 + x5) (a3 + (1 : Int32)) S hF)
theorem mX6_payOf {l : Launch} {D : gD} {K : gK} (hl : l.stackTraces = false) : ∀ (p0 : Option Nat) (p1 : Int32) (S : gS) (r : Int32), fX6_payOf p0 p1 S = some r → gMet l D K yX6_payOf (ws_ yX6_payOf cX6_payOf 4 (Option.some Jvm.ClassFile.FieldType.int)) 2 121 [va_rf p0, .int p1] S (.inl (some (.int r))) S := by
  intro p0 p1 S r hF
  unfold fX6_payOf at hF
  refine gMet.of hl (by decide +kernel) rfl (gle (lgs_r (lgs_i lgs_0)) (by decide)) (fun p e s m below meth c R hRf hRl C _ => ?_)
  generalize hargs : ([va_rf p0, .int p1] : List Value).toArray = args at C ⊢
  generalize hu0 : S.2.2.1 = u0 at C ⊢
  rw [show lv_args 0 [va_rf p0, .int p1] = [(0, va_rf p0), (1, .int p1)] from (lva_r rfl (lva_i rfl lva_0))]
  refine g_iconst (v := (0 : Int32)) C dX6_payOf_0 rfl ?_
  refine g_istore_n C dX6_payOf_1 (by decide) rfl ?_
  refine g_iconst (v := (0 : Int32)) C dX6_payOf_2 rfl ?_
  refine g_istore_n C dX6_payOf_3 (by decide) rfl ?_
  exact g_sub [2, 3, 1, 0] rfl (wfX6_payOf_l4 C hRf hRl gFU p0 p1 (0 : Int32) (0 : Int32) S hF)
/-! VowelChoirModel.onlyThese(I)V -/
def fX6_onlyThese_i2 (ih : (Option Nat) → (Int32) → (Int32) → gS → Option (Unit × gS)) (a0 : Option Nat) (a1 : Int32) (a2 : Int32) (S : gS) : Option (Unit × gS) :=
  (oGetR [3] 12 a0 S).bind fun x1 =>
  (oLdI 0 x1 (0 : Int32) S).bind fun x2 =>
  (if x2 ≤ a2 then
  some ((), S)
  else
  (oGetR [3] 30 a0 S).bind fun x3 =>
  (if (fX6_has a1 a2) = 0 then
  (oStI 0 x3 ((7 : Int32) + a2) (1 : Int32) S).bind fun S4 =>
  ih a0 a1 (a2 + (1 : Int32)) S4
  else
  (oStI 0 x3 ((7 : Int32) + a2) (0 : Int32) S).bind fun S5 =>
  ih a0 a1 (a2 + (1 : Int32)) S5))
def fX6_onlyThese_l2 : Nat → (Option Nat) → (Int32) → (Int32) → gS → Option (Unit × gS)
  | 0 => fun _ _ _ _ => none
  | n + 1 => fun a0 a1 a2 S => fX6_onlyThese_i2 (fX6_onlyThese_l2 n) a0 a1 a2 S
def fX6_onlyThese (p0 : Option Nat) (p1 : Int32) (S : gS) : Option (Unit × gS) :=
  fX6_onlyThese_l2 gFU p0 p1 (0 : Int32) S
theorem wfX6_onlyThese_l2 {r : Unit} {S1 : gS} (C : gCx p l R s m args meth c D K RX6 cX6_onlyThese 3 (Option.none : Option Jvm.ClassFile.FieldType) [] "onlyThese" u0) (hRf : R.frames = 2) (hRl : R.locals = 121) : ∀ (n : Nat) (a0 : Option Nat) (a1 : Int32) (a2 : Int32) (S : gS), fX6_onlyThese_l2 n a0 a1 a2 S = some (r, S1) → gW p l e R s m args below meth c D K 3 u0 (gEnd below args s D K u0 (.inl none) S1) S 2 [(0, va_rf a0), (1, .int a1), (2, .int a2)] [] := by
  intro n
  induction n with
  | zero => intro a0 a1 a2 S hF; cases hF
  | succ n hih =>
    intro a0 a1 a2 S hF
    have hF : fX6_onlyThese_i2 (fX6_onlyThese_l2 n) a0 a1 a2 S = some (r, S1) := hF
    revert hF hih
    generalize fX6_onlyThese_l2 n = ih
    intro hih hF
    unfold fX6_onlyThese_i2 at hF
    refine g_iload_n C 2 dX6_onlyThese_2 rfl ?_
    refine g_aload_n C 0 dX6_onlyThese_3 rfl ?_
    refine g_getR C dX6_onlyThese_4 fd_15 (Or.inl q2040) (Or.inl rfl) hF (fun x1 hF => ?_)
    refine g_iconst (v := (0 : Int32)) C dX6_onlyThese_7 rfl ?_
    refine g_iald C dX6_onlyThese_8 hF (fun x2 hF => ?_)
    refine g_icmp_ge C 40 dX6_onlyThese_9 rfl hF (fun c hF => ?_) (fun c hF => ?_)
    · cases hF
      exact g_vret C dX6_onlyThese_40 rfl rfl
    · refine g_aload_n C 0 dX6_onlyThese_12 rfl ?_
      refine g_getR C dX6_onlyThese_13 fd_38 (Or.inl q2058) (Or.inl rfl) hF (fun x3 hF => ?_)
      refine g_bipush (v := (7 : Int32)) C dX6_onlyThese_16 rfl ?_
      refine g_iload_n C 2 dX6_onlyThese_18 rfl ?_
      refine g_iadd C dX6_onlyThese_19 ?_
      refine g_iload_n C 1 dX6_onlyThese_20 rfl ?_
      refine g_iload_n C 2 dX6_onlyThese_21 rfl ?_
      refine g_after (g_runS (n := 2) C dX6_onlyThese_22 (mX6_has C.2.2.2.2.2.2.2.2.2.2.2.1 a1 a2 S _ rfl) (lw_S q2288 q2289 q124 q2290) (by decide +kernel) ⟨by rw [hRf]; exact Nat.le_of_ble_eq_true rfl, by rw [hRl]; exact Nat.le_of_ble_eq_true rfl⟩ rfl rfl (gle (gc_i (gc_r gc_0)) (by decide))) ?_
      refine g_if_eq C 32 dX6_onlyThese_25 rfl hF (fun c hF => ?_) (fun c hF => ?_)
      · refine g_iconst (v := (1 : Int32)) C dX6_onlyThese_32 rfl ?_
        refine g_iast C dX6_onlyThese_33 hF (fun S4 hF => ?_)
        refine g_iinc (v := (1 : Int32)) C 2 dX6_onlyThese_34 rfl rfl (by decide) rfl ?_
        refine g_goto C 2 dX6_onlyThese_37 rfl ?_
        exact g_sub [1, 2, 0] rfl (hih a0 a1 (a2 + (1 : Int32)) S4 hF)
      · refine g_iconst (v := (0 : Int32)) C dX6_onlyThese_28 rfl ?_
        refine g_goto C 33 dX6_onlyThese_29 rfl ?_
        refine g_iast C dX6_onlyThese_33 hF (fun S5 hF => ?_)
        refine g_iinc (v := (1 : Int32)) C 2 dX6_onlyThese_34 rfl rfl (by decide) rfl ?_
        refine g_goto C 2 dX6_onlyThese_37 rfl ?_
        exact g_sub [1, 2, 0] rfl (hih a0 a1 (a2 + (1 : Int32)) S5 hF)
theorem mX6_onlyThese {l : Launch} {D : gD} {K : gK} (hl : l.stackTraces = false) : ∀ (p0 : Option Nat) (p1 : Int32) (S : gS) (r : Unit) (S1 : gS), fX6_onlyThese p0 p1 S = some (r, S1) → gMet l D K yX6_onlyThese (ws_ yX6_onlyThese cX6_onlyThese 3 (Option.none : Option Jvm.ClassFile.FieldType)) 2 121 [va_rf p0, .int p1] S (.inl none) S1 := by
  intro p0 p1 S r S1 hF
  unfold fX6_onlyThese at hF
  refine gMet.of hl (by decide +kernel) rfl (gle (lgs_r (lgs_i lgs_0)) (by decide)) (fun p e s m below meth c R hRf hRl C _ => ?_)
  generalize hargs : ([va_rf p0, .int p1] : List Value).toArray = args at C ⊢
  generalize hu0 : S.2.2.1 = u0 at C ⊢
  rw [show lv_args 0 [va_rf p0, .int p1] = [(0, va_rf p0), (1, .int p1)] from (lva_r rfl (lva_i rfl lva_0))]
  refine g_iconst (v := (0 : Int32)) C dX6_onlyThese_0 rfl ?_
  refine g_istore_n C dX6_onlyThese_1 (by decide) rfl ?_
  exact g_sub [1, 2, 0] rfl (wfX6_onlyThese_l2 C hRf hRl gFU p0 p1 (0 : Int32) S hF)
/-! VowelChoirModel.cast()I -/
def fX6_cast_j60 (k9 : (Option Nat) → (Int32) → (Int32) → gS → Option (Int32 × gS)) (a0 : Option Nat) (a1 : Int32) (a2 : Int32) (S : gS) : Option (Int32 × gS) :=
  (oGetR [3] 29 a0 S).bind fun x1 =>
  (oGetR [3] 30 a0 S).bind fun x2 =>
  gB (fX6_copies x1 x2 S) fun x3 S4 =>
  (oGetR [3] 30 a0 S4).bind fun x5 =>
  gB (gV [3] a0 S4 (fX6_breathes a0 x5 S4)) fun x6 S7 =>
  gB (gV [3] a0 S7 (fX6_onlyThese a0 a2 S7)) fun x8 S9 =>
  (oGetR [3] 30 a0 S9).bind fun x10 =>
  gB (gV [3] a0 S9 (fX6_hymns a0 x10 S9)) fun x11 S12 =>
  (oGetI [3] 38 a0 S12).bind fun x13 =>
  (oGetR [3] 12 a0 S12).bind fun x14 =>
  (oLdI 0 x14 (1 : Int32) S12).bind fun x15 =>
  (if x13 = (((1 : Int32) <<< (x15 &&& 31)) - (1 : Int32)) then
  k9 a0 a2 (a2 + (1 : Int32)) S12
  else
  k9 a0 a1 (a2 + (1 : Int32)) S12)
def fX6_cast_j35 (k9 : (Option Nat) → (Int32) → (Int32) → gS → Option (Int32 × gS)) (a0 : Option Nat) (a1 : Int32) (a2 : Int32) (t0 : Int32) (S : gS) : Option (Int32 × gS) :=
  (if 0 < t0 then
  k9 a0 a1 (a2 + (1 : Int32)) S
  else
  (if t0 = 0 then
  (gV [3] a0 S (fX6_payOf a0 a2 S)).bind fun x1 =>
  (gV [3] a0 S (fX6_payOf a0 a1 S)).bind fun x2 =>
  (if x1 < x2 then
  fX6_cast_j60 k9 a0 a1 a2 S
  else
  k9 a0 a1 (a2 + (1 : Int32)) S)
  else
  fX6_cast_j60 k9 a0 a1 a2 S))
def fX6_cast_i9 (ih : (Option Nat) → (Int32) → (Int32) → gS → Option (Int32 × gS)) (a0 : Option Nat) (a1 : Int32) (a2 : Int32) (S : gS) : Option (Int32 × gS) :=
  (gV [3] a0 S (fX6_everySinger a0 S)).bind fun x1 =>
  (if x1 < a2 then
  some (a1, S)
  else
  (if a1 = (-1 : Int32) then
  fX6_cast_j35 ih a0 a1 a2 (-1 : Int32) S
  else
  (fX6_ones a2 S).bind fun x2 =>
  (fX6_ones a1 S).bind fun x3 =>
  fX6_cast_j35 ih a0 a1 a2 (x2 - x3) S))
def fX6_cast_l9 : Nat → (Option Nat) → (Int32) → (Int32) → gS → Option (Int32 × gS)
  | 0 => fun _ _ _ _ => none
  | n + 1 => fun a0 a1 a2 S => fX6_cast_i9 (fX6_cast_l9 n) a0 a1 a2 S
def fX6_cast (p0 : Option Nat) (S : gS) : Option (Int32 × gS) :=
  (oPut [3] 0 p0 (.int ((0 : Int32))) S).bind fun S1 =>
  fX6_cast_l9 gFU p0 (-1 : Int32) (0 : Int32) S1
theorem wfX6_cast_j60 {r : Int32} {S1 : gS} (C : gCx p l R s m args meth c D K RX6 cX6_cast 4 (Option.some Jvm.ClassFile.FieldType.int) [] "cast" u0) (hRf : R.frames = 9) (hRl : R.locals = 285) (k9 : (Option Nat) → (Int32) → (Int32) → gS → Option (Int32 × gS)) (hk9 : ∀ (a0 : Option Nat) (a1 : Int32) (a2 : Int32) (S : gS), k9 a0 a1 a2 S = some (r, S1) → gW p l e R s m args below meth c D K 4 u0 (gEnd below args s D K u0 (.inl (some (.int r))) S1) S 9 [(0, va_rf a0), (1, .int a1), (2, .int a2)] []) : ∀ (a0 : Option Nat) (a1 : Int32) (a2 : Int32) (S : gS), fX6_cast_j60 k9 a0 a1 a2 S = some (r, S1) → gW p l e R s m args below meth c D K 4 u0 (gEnd below args s D K u0 (.inl (some (.int r))) S1) S 60 [(0, va_rf a0), (1, .int a1), (2, .int a2)] [] := by
  intro a0 a1 a2 S hF
  unfold fX6_cast_j60 at hF
  refine g_aload_n C 0 dX6_cast_60 rfl ?_
  refine g_getR C dX6_cast_61 fd_22 (Or.inl q2057) (Or.inl rfl) hF (fun x1 hF => ?_)
  refine g_aload_n C 0 dX6_cast_64 rfl ?_
  refine g_getR C dX6_cast_65 fd_38 (Or.inl q2058) (Or.inl rfl) hF (fun x2 hF => ?_)
  obtain ⟨x3, S4, h, hF⟩ := gB_some hF
  refine g_after (g_runS (n := 2) C dX6_cast_68 (mX6_copies C.2.2.2.2.2.2.2.2.2.2.2.1 x1 x2 S _ _ h) (lw_S q2307 q2308 q124 q2309) (by decide +kernel) ⟨by rw [hRf]; exact Nat.le_of_ble_eq_true rfl, by rw [hRl]; exact Nat.le_of_ble_eq_true rfl⟩ rfl rfl (gle gc_0 (by decide))) ?_
  refine g_aload_n C 0 dX6_cast_71 rfl ?_
  refine g_aload_n C 0 dX6_cast_72 rfl ?_
  refine g_getR C dX6_cast_73 fd_38 (Or.inl q2058) (Or.inl rfl) hF (fun x5 hF => ?_)
  obtain ⟨x6, S7, h, hF⟩ := gB_some hF
  obtain ⟨hi, h⟩ := gV_some h
  refine g_after (g_runV (n := 1) C dX6_cast_76 rfl hi (mX6_breathes C.2.2.2.2.2.2.2.2.2.2.2.1 a0 x5 S4 _ _ h) (lw_V q2024 q2026 qs45 q124 q2027) (by decide +kernel) ⟨by rw [hRf]; exact Nat.le_of_ble_eq_true rfl, by rw [hRl]; exact Nat.le_of_ble_eq_true rfl⟩ rfl rfl (gle gc_0 (by decide))) ?_
  refine g_aload_n C 0 dX6_cast_79 rfl ?_
  refine g_iload_n C 2 dX6_cast_80 rfl ?_
  obtain ⟨x8, S9, h, hF⟩ := gB_some hF
  obtain ⟨hi, h⟩ := gV_some h
  refine g_after (g_runV (n := 1) C dX6_cast_81 rfl hi (mX6_onlyThese C.2.2.2.2.2.2.2.2.2.2.2.1 a0 a2 S7 _ _ h) (lw_V q2432 q2434 qs86 q124 q2435) (by decide +kernel) ⟨by rw [hRf]; exact Nat.le_of_ble_eq_true rfl, by rw [hRl]; exact Nat.le_of_ble_eq_true rfl⟩ rfl rfl (gle gc_0 (by decide))) ?_
  refine g_aload_n C 0 dX6_cast_84 rfl ?_
  refine g_aload_n C 0 dX6_cast_85 rfl ?_
  refine g_getR C dX6_cast_86 fd_38 (Or.inl q2058) (Or.inl rfl) hF (fun x10 hF => ?_)
  obtain ⟨x11, S12, h, hF⟩ := gB_some hF
  obtain ⟨hi, h⟩ := gV_some h
  refine g_after (g_runV (n := 1) C dX6_cast_89 rfl hi (mX6_hymns C.2.2.2.2.2.2.2.2.2.2.2.1 a0 x10 S9 _ _ h) (lw_V q2347 q2349 qs76 q124 q2350) (by decide +kernel) ⟨by rw [hRf]; exact Nat.le_of_ble_eq_true rfl, by rw [hRl]; exact Nat.le_of_ble_eq_true rfl⟩ rfl rfl (gle gc_0 (by decide))) ?_
  refine g_aload_n C 0 dX6_cast_92 rfl ?_
  refine g_getI C dX6_cast_93 fd_54 (Or.inl q2066) (Or.inl rfl) hF (fun x13 hF => ?_)
  refine g_iconst (v := (1 : Int32)) C dX6_cast_96 rfl ?_
  refine g_aload_n C 0 dX6_cast_97 rfl ?_
  refine g_getR C dX6_cast_98 fd_15 (Or.inl q2040) (Or.inl rfl) hF (fun x14 hF => ?_)
  refine g_iconst (v := (1 : Int32)) C dX6_cast_101 rfl ?_
  refine g_iald C dX6_cast_102 hF (fun x15 hF => ?_)
  refine g_ishl C dX6_cast_103 ?_
  refine g_iconst (v := (1 : Int32)) C dX6_cast_104 rfl ?_
  refine g_isub C dX6_cast_105 ?_
  refine g_icmp_ne C 113 dX6_cast_106 rfl hF (fun c hF => ?_) (fun c hF => ?_)
  · refine g_iload_n C 1 dX6_cast_113 rfl ?_
    refine g_istore_n C dX6_cast_114 (by decide) (gcons rfl (gfr rfl (gfd rfl (gfk rfl rfl gf0)))) ?_
    refine g_iinc (v := (1 : Int32)) C 2 dX6_cast_115 rfl rfl (by decide) rfl ?_
    refine g_goto C 9 dX6_cast_118 rfl ?_
    exact g_sub [2, 1, 0] rfl (hk9 a0 a1 (a2 + (1 : Int32)) S12 hF)
  · refine g_iload_n C 2 dX6_cast_109 rfl ?_
    refine g_goto C 114 dX6_cast_110 rfl ?_
    refine g_istore_n C dX6_cast_114 (by decide) (gcons rfl (gfr rfl (gfd rfl (gfk rfl rfl gf0)))) ?_
    refine g_iinc (v := (1 : Int32)) C 2 dX6_cast_115 rfl rfl (by decide) rfl ?_
    refine g_goto C 9 dX6_cast_118 rfl ?_
    exact g_sub [2, 1, 0] rfl (hk9 a0 a2 (a2 + (1 : Int32)) S12 hF)
theorem wfX6_cast_j35 {r : Int32} {S1 : gS} (C : gCx p l R s m args meth c D K RX6 cX6_cast 4 (Option.some Jvm.ClassFile.FieldType.int) [] "cast" u0) (hRf : R.frames = 9) (hRl : R.locals = 285) (k9 : (Option Nat) → (Int32) → (Int32) → gS → Option (Int32 × gS)) (hk9 : ∀ (a0 : Option Nat) (a1 : Int32) (a2 : Int32) (S : gS), k9 a0 a1 a2 S = some (r, S1) → gW p l e R s m args below meth c D K 4 u0 (gEnd below args s D K u0 (.inl (some (.int r))) S1) S 9 [(0, va_rf a0), (1, .int a1), (2, .int a2)] []) : ∀ (a0 : Option Nat) (a1 : Int32) (a2 : Int32) (t0 : Int32) (S : gS), fX6_cast_j35 k9 a0 a1 a2 t0 S = some (r, S1) → gW p l e R s m args below meth c D K 4 u0 (gEnd below args s D K u0 (.inl (some (.int r))) S1) S 35 [(0, va_rf a0), (1, .int a1), (2, .int a2)] [.int t0] := by
  intro a0 a1 a2 t0 S hF
  unfold fX6_cast_j35 at hF
  refine g_istore_n C dX6_cast_35 (by decide) rfl ?_
  refine g_iload_n C 0 dX6_cast_36 rfl ?_
  refine g_if_gt C 115 dX6_cast_37 rfl hF (fun c hF => ?_) (fun c hF => ?_)
  · refine g_iinc (v := (1 : Int32)) C 3 dX6_cast_115 rfl rfl (by decide) rfl ?_
    refine g_goto C 9 dX6_cast_118 rfl ?_
    exact g_sub [2, 3, 0] rfl (hk9 a0 a1 (a2 + (1 : Int32)) S hF)
  · refine g_iload_n C 0 dX6_cast_40 rfl ?_
    refine g_if_ne C 60 dX6_cast_41 rfl hF (fun c hF => ?_) (fun c hF => ?_)
    · exact g_sub [1, 2, 3] rfl (wfX6_cast_j60 C hRf hRl (k9) (hk9) a0 a1 a2 S hF)
    · refine g_aload_n C 1 dX6_cast_44 rfl ?_
      refine g_iload_n C 3 dX6_cast_45 rfl ?_
      obtain ⟨x1, h, hF⟩ := oB hF
      obtain ⟨hi, h⟩ := gV_some h
      refine g_after (g_runV (n := 1) C dX6_cast_46 rfl hi (mX6_payOf C.2.2.2.2.2.2.2.2.2.2.2.1 a0 a2 S _ h) (lw_V q2428 q2430 qs85 q124 q2431) (by decide +kernel) ⟨by rw [hRf]; exact Nat.le_of_ble_eq_true rfl, by rw [hRl]; exact Nat.le_of_ble_eq_true rfl⟩ rfl rfl (gle gc_0 (by decide))) ?_
      refine g_aload_n C 1 dX6_cast_49 rfl ?_
      refine g_iload_n C 2 dX6_cast_50 rfl ?_
      obtain ⟨x2, h, hF⟩ := oB hF
      obtain ⟨hi, h⟩ := gV_some h
      refine g_after (g_runV (n := 1) C dX6_cast_51 rfl hi (mX6_payOf C.2.2.2.2.2.2.2.2.2.2.2.1 a0 a1 S _ h) (lw_V q2428 q2430 qs85 q124 q2431) (by decide +kernel) ⟨by rw [hRf]; exact Nat.le_of_ble_eq_true rfl, by rw [hRl]; exact Nat.le_of_ble_eq_true rfl⟩ rfl rfl (gle (gc_i gc_0) (by decide))) ?_
      refine g_icmp_lt C 60 dX6_cast_54 rfl hF (fun c hF => ?_) (fun c hF => ?_)
      · exact g_sub [1, 2, 3] rfl (wfX6_cast_j60 C hRf hRl (k9) (hk9) a0 a1 a2 S hF)
      · refine g_goto C 115 dX6_cast_57 rfl ?_
        refine g_iinc (v := (1 : Int32)) C 3 dX6_cast_115 rfl rfl (by decide) rfl ?_
        refine g_goto C 9 dX6_cast_118 rfl ?_
        exact g_sub [2, 3, 0] rfl (hk9 a0 a1 (a2 + (1 : Int32)) S hF)
theorem wfX6_cast_l9 {r : Int32} {S1 : gS} (C : gCx p l R s m args meth c D K RX6 cX6_cast 4 (Option.some Jvm.ClassFile.FieldType.int) [] "cast" u0) (hRf : R.frames = 9) (hRl : R.locals = 285) : ∀ (n : Nat) (a0 : Option Nat) (a1 : Int32) (a2 : Int32) (S : gS), fX6_cast_l9 n a0 a1 a2 S = some (r, S1) → gW p l e R s m args below meth c D K 4 u0 (gEnd below args s D K u0 (.inl (some (.int r))) S1) S 9 [(0, va_rf a0), (1, .int a1), (2, .int a2)] [] := by
  intro n
  induction n with
  | zero => intro a0 a1 a2 S hF; cases hF
  | succ n hih =>
    intro a0 a1 a2 S hF
    have hF : fX6_cast_i9 (fX6_cast_l9 n) a0 a1 a2 S = some (r, S1) := hF
    revert hF hih
    generalize fX6_cast_l9 n = ih
    intro hih hF
    unfold fX6_cast_i9 at hF
    refine g_iload_n C 2 dX6_cast_9 rfl ?_
    refine g_aload_n C 0 dX6_cast_10 rfl ?_
    obtain ⟨x1, h, hF⟩ := oB hF
    obtain ⟨hi, h⟩ := gV_some h
    refine g_after (g_runV (n := 0) C dX6_cast_11 rfl hi (mX6_everySinger C.2.2.2.2.2.2.2.2.2.2.2.1 a0 S _ h) (lw_V q2421 q2423 qs84 q124 q2424) (by decide +kernel) ⟨by rw [hRf]; exact Nat.le_of_ble_eq_true rfl, by rw [hRl]; exact Nat.le_of_ble_eq_true rfl⟩ rfl rfl (gle (gc_i gc_0) (by decide))) ?_
    refine g_icmp_gt C 121 dX6_cast_14 rfl hF (fun c hF => ?_) (fun c hF => ?_)
    · refine g_iload_n C 1 dX6_cast_121 rfl ?_
      cases hF
      exact g_iret C dX6_cast_122 rfl rfl
    · refine g_iload_n C 1 dX6_cast_17 rfl ?_
      refine g_iconst (v := (-1 : Int32)) C dX6_cast_18 rfl ?_
      refine g_icmp_ne C 26 dX6_cast_19 rfl hF (fun c hF => ?_) (fun c hF => ?_)
      · refine g_iload_n C 2 dX6_cast_26 rfl ?_
        obtain ⟨x2, h, hF⟩ := oB hF
        refine g_after (g_runS (n := 1) C dX6_cast_27 (mX6_ones C.2.2.2.2.2.2.2.2.2.2.2.1 a2 S _ h) (lw_S q2425 q2426 q124 q2427) (by decide +kernel) ⟨by rw [hRf]; exact Nat.le_of_ble_eq_true rfl, by rw [hRl]; exact Nat.le_of_ble_eq_true rfl⟩ rfl rfl (gle gc_0 (by decide))) ?_
        refine g_iload_n C 1 dX6_cast_30 rfl ?_
        obtain ⟨x3, h, hF⟩ := oB hF
        refine g_after (g_runS (n := 1) C dX6_cast_31 (mX6_ones C.2.2.2.2.2.2.2.2.2.2.2.1 a1 S _ h) (lw_S q2425 q2426 q124 q2427) (by decide +kernel) ⟨by rw [hRf]; exact Nat.le_of_ble_eq_true rfl, by rw [hRl]; exact Nat.le_of_ble_eq_true rfl⟩ rfl rfl (gle (gc_i gc_0) (by decide))) ?_
        refine g_isub C dX6_cast_34 ?_
        exact g_sub [0, 1, 2] rfl (wfX6_cast_j35 C hRf hRl (ih) (hih) a0 a1 a2 (x2 - x3) S hF)
      · refine g_iconst (v := (-1 : Int32)) C dX6_cast_22 rfl ?_
        refine g_goto C 35 dX6_cast_23 rfl ?_
        exact g_sub [0, 1, 2] rfl (wfX6_cast_j35 C hRf hRl (ih) (hih) a0 a1 a2 (-1 : Int32) S hF)
theorem mX6_cast {l : Launch} {D : gD} {K : gK} (hl : l.stackTraces = false) : ∀ (p0 : Option Nat) (S : gS) (r : Int32) (S1 : gS), fX6_cast p0 S = some (r, S1) → gMet l D K yX6_cast (ws_ yX6_cast cX6_cast 4 (Option.some Jvm.ClassFile.FieldType.int)) 9 285 [va_rf p0] S (.inl (some (.int r))) S1 := by
  intro p0 S r S1 hF
  unfold fX6_cast at hF
  refine gMet.of hl (by decide +kernel) rfl (gle (lgs_r lgs_0) (by decide)) (fun p e s m below meth c R hRf hRl C _ => ?_)
  generalize hargs : ([va_rf p0] : List Value).toArray = args at C ⊢
  generalize hu0 : S.2.2.1 = u0 at C ⊢
  rw [show lv_args 0 [va_rf p0] = [(0, va_rf p0)] from (lva_r rfl lva_0)]
  refine g_aload_n C 0 dX6_cast_0 rfl ?_
  refine g_iconst (v := (0 : Int32)) C dX6_cast_1 rfl ?_
  refine g_put C dX6_cast_2 fd_44 (Or.inl q2028) (Or.inl rfl) pf_0 rfl rfl hF (fun S1 hF => ?_)
  refine g_iconst (v := (-1 : Int32)) C dX6_cast_5 rfl ?_
  refine g_istore_n C dX6_cast_6 (by decide) (gcons rfl (gfr rfl gf0)) ?_
  refine g_iconst (v := (0 : Int32)) C dX6_cast_7 rfl ?_
  refine g_istore_n C dX6_cast_8 (by decide) rfl ?_
  exact g_sub [2, 1, 0] rfl (wfX6_cast_l9 C hRf hRl gFU p0 (-1 : Int32) (0 : Int32) S1 hF)
/-! VowelChoirModel.handedOf(II)I -/
def fX6_handedOf_j62 (k5 : (Option Nat) → (Int32) → (Int32) → (Int32) → (Int32) → gS → Option Int32) (a0 : Option Nat) (a1 : Int32) (a2 : Int32) (a4 : Int32) (a5 : Int32) (a6 : Int32) (t0 : Int32) (S : gS) : Option Int32 :=
  (if a5 = a2 then
  (if a6 = a1 then
  k5 a0 a1 a2 (t0 + (1 : Int32)) (a4 + (1 : Int32)) S
  else
  k5 a0 a1 a2 (t0 + (0 : Int32)) (a4 + (1 : Int32)) S)
  else
  k5 a0 a1 a2 (t0 + (0 : Int32)) (a4 + (1 : Int32)) S)
def fX6_handedOf_i5 (ih : (Option Nat) → (Int32) → (Int32) → (Int32) → (Int32) → gS → Option Int32) (a0 : Option Nat) (a1 : Int32) (a2 : Int32) (a3 : Int32) (a4 : Int32) (S : gS) : Option Int32 :=
  (oGetR [3] 12 a0 S).bind fun x1 =>
  (oLdI 0 x1 (1 : Int32) S).bind fun x2 =>
  (if x2 ≤ (a4 + (1 : Int32)) then
  some a3
  else
  (if a1 = a2 then
  some a3
  else
  (oGetR [3] 29 a0 S).bind fun x3 =>
  (oLdI 0 x3 ((35 : Int32) + a4) S).bind fun x4 =>
  (oGetR [3] 29 a0 S).bind fun x5 =>
  (oLdI 0 x5 (((35 : Int32) + a4) + (1 : Int32)) S).bind fun x6 =>
  (if x4 = a1 then
  (if x6 = a2 then
  ih a0 a1 a2 (a3 + (1 : Int32)) (a4 + (1 : Int32)) S
  else
  fX6_handedOf_j62 ih a0 a1 a2 a4 x4 x6 a3 S)
  else
  fX6_handedOf_j62 ih a0 a1 a2 a4 x4 x6 a3 S)))
def fX6_handedOf_l5 : Nat → (Option Nat) → (Int32) → (Int32) → (Int32) → (Int32) → gS → Option Int32
  | 0 => fun _ _ _ _ _ _ => none
  | n + 1 => fun a0 a1 a2 a3 a4 S => fX6_handedOf_i5 (fX6_handedOf_l5 n) a0 a1 a2 a3 a4 S
def fX6_handedOf (p0 : Option Nat) (p1 : Int32) (p2 : Int32) (S : gS) : Option Int32 :=
  fX6_handedOf_l5 gFU p0 p1 p2 (0 : Int32) (0 : Int32) S
theorem wfX6_handedOf_j62 {r : Int32} (C : gCx p l R s m args meth c D K RX6 cX6_handedOf 7 (Option.some Jvm.ClassFile.FieldType.int) [] "handedOf" u0) (hRf : R.frames = 1) (hRl : R.locals = 100) (k5 : (Option Nat) → (Int32) → (Int32) → (Int32) → (Int32) → gS → Option Int32) (hk5 : ∀ (a0 : Option Nat) (a1 : Int32) (a2 : Int32) (a3 : Int32) (a4 : Int32) (S : gS), k5 a0 a1 a2 a3 a4 S = some r → gW p l e R s m args below meth c D K 7 u0 (gEnd below args s D K u0 (.inl (some (.int r))) S) S 5 [(0, va_rf a0), (1, .int a1), (2, .int a2), (3, .int a3), (4, .int a4)] []) : ∀ (a0 : Option Nat) (a1 : Int32) (a2 : Int32) (a4 : Int32) (a5 : Int32) (a6 : Int32) (t0 : Int32) (S : gS), fX6_handedOf_j62 k5 a0 a1 a2 a4 a5 a6 t0 S = some r → gW p l e R s m args below meth c D K 7 u0 (gEnd below args s D K u0 (.inl (some (.int r))) S) S 62 [(0, va_rf a0), (1, .int a1), (2, .int a2), (4, .int a4), (5, .int a5), (6, .int a6)] [.int t0] := by
  intro a0 a1 a2 a4 a5 a6 t0 S hF
  unfold fX6_handedOf_j62 at hF
  refine g_iload C 4 dX6_handedOf_62 rfl ?_
  refine g_iload_n C 2 dX6_handedOf_64 rfl ?_
  refine g_icmp_ne C 78 dX6_handedOf_65 rfl hF (fun c hF => ?_) (fun c hF => ?_)
  · refine g_iconst (v := (0 : Int32)) C dX6_handedOf_78 rfl ?_
    refine g_iadd C dX6_handedOf_79 ?_
    refine g_istore_n C dX6_handedOf_80 (by decide) rfl ?_
    refine g_iinc (v := (1 : Int32)) C 4 dX6_handedOf_81 rfl rfl (by decide) rfl ?_
    refine g_goto C 5 dX6_handedOf_84 rfl ?_
    exact g_sub [2, 3, 4, 1, 0] rfl (hk5 a0 a1 a2 (t0 + (0 : Int32)) (a4 + (1 : Int32)) S hF)
  · refine g_iload C 5 dX6_handedOf_68 rfl ?_
    refine g_iload_n C 1 dX6_handedOf_70 rfl ?_
    refine g_icmp_ne C 78 dX6_handedOf_71 rfl hF (fun c hF => ?_) (fun c hF => ?_)
    · refine g_iconst (v := (0 : Int32)) C dX6_handedOf_78 rfl ?_
      refine g_iadd C dX6_handedOf_79 ?_
      refine g_istore_n C dX6_handedOf_80 (by decide) rfl ?_
      refine g_iinc (v := (1 : Int32)) C 4 dX6_handedOf_81 rfl rfl (by decide) rfl ?_
      refine g_goto C 5 dX6_handedOf_84 rfl ?_
      exact g_sub [2, 3, 4, 1, 0] rfl (hk5 a0 a1 a2 (t0 + (0 : Int32)) (a4 + (1 : Int32)) S hF)
    · refine g_iconst (v := (1 : Int32)) C dX6_handedOf_74 rfl ?_
      refine g_goto C 79 dX6_handedOf_75 rfl ?_
      refine g_iadd C dX6_handedOf_79 ?_
      refine g_istore_n C dX6_handedOf_80 (by decide) rfl ?_
      refine g_iinc (v := (1 : Int32)) C 4 dX6_handedOf_81 rfl rfl (by decide) rfl ?_
      refine g_goto C 5 dX6_handedOf_84 rfl ?_
      exact g_sub [2, 3, 4, 1, 0] rfl (hk5 a0 a1 a2 (t0 + (1 : Int32)) (a4 + (1 : Int32)) S hF)
theorem wfX6_handedOf_l5 {r : Int32} (C : gCx p l R s m args meth c D K RX6 cX6_handedOf 7 (Option.some Jvm.ClassFile.FieldType.int) [] "handedOf" u0) (hRf : R.frames = 1) (hRl : R.locals = 100) : ∀ (n : Nat) (a0 : Option Nat) (a1 : Int32) (a2 : Int32) (a3 : Int32) (a4 : Int32) (S : gS), fX6_handedOf_l5 n a0 a1 a2 a3 a4 S = some r → gW p l e R s m args below meth c D K 7 u0 (gEnd below args s D K u0 (.inl (some (.int r))) S) S 5 [(0, va_rf a0), (1, .int a1), (2, .int a2), (3, .int a3), (4, .int a4)] [] := by
  intro n
  induction n with
  | zero => intro a0 a1 a2 a3 a4 S hF; cases hF
  | succ n hih =>
    intro a0 a1 a2 a3 a4 S hF
    have hF : fX6_handedOf_i5 (fX6_handedOf_l5 n) a0 a1 a2 a3 a4 S = some r := hF
    revert hF hih
    generalize fX6_handedOf_l5 n = ih
    intro hih hF
    unfold fX6_handedOf_i5 at hF
    refine g_iload C 4 dX6_handedOf_5 rfl ?_
    refine g_iconst (v := (1 : Int32)) C dX6_handedOf_7 rfl ?_
    refine g_iadd C dX6_handedOf_8 ?_
    refine g_aload_n C 0 dX6_handedOf_9 rfl ?_
    refine g_getR C dX6_handedOf_10 fd_15 (Or.inl q2040) (Or.inl rfl) hF (fun x1 hF => ?_)
    refine g_iconst (v := (1 : Int32)) C dX6_handedOf_13 rfl ?_
    refine g_iald C dX6_handedOf_14 hF (fun x2 hF => ?_)
    refine g_icmp_ge C 87 dX6_handedOf_15 rfl hF (fun c hF => ?_) (fun c hF => ?_)
    · refine g_iload_n C 3 dX6_handedOf_87 rfl ?_
      cases hF
      exact g_iret C dX6_handedOf_88 rfl rfl
    · refine g_iload_n C 1 dX6_handedOf_18 rfl ?_
      refine g_iload_n C 2 dX6_handedOf_19 rfl ?_
      refine g_icmp_eq C 87 dX6_handedOf_20 rfl hF (fun c hF => ?_) (fun c hF => ?_)
      · refine g_iload_n C 3 dX6_handedOf_87 rfl ?_
        cases hF
        exact g_iret C dX6_handedOf_88 rfl rfl
      · refine g_aload_n C 0 dX6_handedOf_23 rfl ?_
        refine g_getR C dX6_handedOf_24 fd_22 (Or.inl q2057) (Or.inl rfl) hF (fun x3 hF => ?_)
        refine g_bipush (v := (35 : Int32)) C dX6_handedOf_27 rfl ?_
        refine g_iload C 4 dX6_handedOf_29 rfl ?_
        refine g_iadd C dX6_handedOf_31 ?_
        refine g_iald C dX6_handedOf_32 hF (fun x4 hF => ?_)
        refine g_istore C dX6_handedOf_33 (by decide) rfl ?_
        refine g_aload_n C 1 dX6_handedOf_35 rfl ?_
        refine g_getR C dX6_handedOf_36 fd_22 (Or.inl q2057) (Or.inl rfl) hF (fun x5 hF => ?_)
        refine g_bipush (v := (35 : Int32)) C dX6_handedOf_39 rfl ?_
        refine g_iload C 5 dX6_handedOf_41 rfl ?_
        refine g_iadd C dX6_handedOf_43 ?_
        refine g_iconst (v := (1 : Int32)) C dX6_handedOf_44 rfl ?_
        refine g_iadd C dX6_handedOf_45 ?_
        refine g_iald C dX6_handedOf_46 hF (fun x6 hF => ?_)
        refine g_istore C dX6_handedOf_47 (by decide) rfl ?_
        refine g_iload_n C 5 dX6_handedOf_49 rfl ?_
        refine g_iload C 1 dX6_handedOf_50 rfl ?_
        refine g_iload_n C 3 dX6_handedOf_52 rfl ?_
        refine g_icmp_ne C 62 dX6_handedOf_53 rfl hF (fun c hF => ?_) (fun c hF => ?_)
        · exact g_sub [2, 3, 4, 6, 1, 0] rfl (wfX6_handedOf_j62 C hRf hRl (ih) (hih) a0 a1 a2 a4 x4 x6 a3 S hF)
        · refine g_iload C 0 dX6_handedOf_56 rfl ?_
          refine g_iload_n C 4 dX6_handedOf_58 rfl ?_
          refine g_icmp_eq C 74 dX6_handedOf_59 rfl hF (fun c hF => ?_) (fun c hF => ?_)
          · refine g_iconst (v := (1 : Int32)) C dX6_handedOf_74 rfl ?_
            refine g_goto C 79 dX6_handedOf_75 rfl ?_
            refine g_iadd C dX6_handedOf_79 ?_
            refine g_istore_n C dX6_handedOf_80 (by decide) rfl ?_
            refine g_iinc (v := (1 : Int32)) C 6 dX6_handedOf_81 rfl rfl (by decide) rfl ?_
            refine g_goto C 5 dX6_handedOf_84 rfl ?_
            exact g_sub [4, 5, 6, 1, 0] rfl (hih a0 a1 a2 (a3 + (1 : Int32)) (a4 + (1 : Int32)) S hF)
          · exact g_sub [2, 3, 4, 6, 1, 0] rfl (wfX6_handedOf_j62 C hRf hRl (ih) (hih) a0 a1 a2 a4 x4 x6 a3 S hF)
theorem mX6_handedOf {l : Launch} {D : gD} {K : gK} (hl : l.stackTraces = false) : ∀ (p0 : Option Nat) (p1 : Int32) (p2 : Int32) (S : gS) (r : Int32), fX6_handedOf p0 p1 p2 S = some r → gMet l D K yX6_handedOf (ws_ yX6_handedOf cX6_handedOf 7 (Option.some Jvm.ClassFile.FieldType.int)) 1 100 [va_rf p0, .int p1, .int p2] S (.inl (some (.int r))) S := by
  intro p0 p1 p2 S r hF
  unfold fX6_handedOf at hF
  refine gMet.of hl (by decide +kernel) rfl (gle (lgs_r (lgs_i (lgs_i lgs_0))) (by decide)) (fun p e s m below meth c R hRf hRl C _ => ?_)
  generalize hargs : ([va_rf p0, .int p1, .int p2] : List Value).toArray = args at C ⊢
  generalize hu0 : S.2.2.1 = u0 at C ⊢
  rw [show lv_args 0 [va_rf p0, .int p1, .int p2] = [(0, va_rf p0), (1, .int p1), (2, .int p2)] from (lva_r rfl (lva_i rfl (lva_i rfl lva_0)))]
  refine g_iconst (v := (0 : Int32)) C dX6_handedOf_0 rfl ?_
  refine g_istore_n C dX6_handedOf_1 (by decide) rfl ?_
  refine g_iconst (v := (0 : Int32)) C dX6_handedOf_2 rfl ?_
  refine g_istore C dX6_handedOf_3 (by decide) rfl ?_
  exact g_sub [2, 3, 4, 1, 0] rfl (wfX6_handedOf_l5 C hRf hRl gFU p0 p1 p2 (0 : Int32) (0 : Int32) S hF)
/-! VowelChoirModel.handed(II)I -/
def fX6_handed_j25 (a0 : Option Nat) (a1 : Int32) (a2 : Int32) (t0 : Int32) (t1 : Option Nat) (S : gS) : Option (Int32 × gS) :=
  gB (gV [3] t1 S (fX6_bad t1 t0 (1 : Int32) (1 : Int32) S)) fun x1 S2 =>
  (if x1 = 0 then
  (gV [3] a0 S2 (fX6_handedOf a0 a1 a2 S2)).bind fun x3 =>
  some (x3, S2)
  else
  some ((0 : Int32), S2))
def fX6_handed_j20 (a0 : Option Nat) (a1 : Int32) (a2 : Int32) (t0 : Option Nat) (S : gS) : Option (Int32 × gS) :=
  fX6_handed_j25 a0 a1 a2 (1 : Int32) t0 S
def fX6_handed (p0 : Option Nat) (p1 : Int32) (p2 : Int32) (S : gS) : Option (Int32 × gS) :=
  (oPut [3] 0 p0 (.int ((0 : Int32))) S).bind fun S1 =>
  (fX6_isVowel p1 S1).bind fun x2 =>
  (if x2 = 0 then
  fX6_handed_j20 p0 p1 p2 p0 S1
  else
  (fX6_isVowel p2 S1).bind fun x3 =>
  (if x3 = 0 then
  fX6_handed_j20 p0 p1 p2 p0 S1
  else
  fX6_handed_j25 p0 p1 p2 (0 : Int32) p0 S1))
theorem wfX6_handed_j25 {r : Int32} {S1 : gS} (C : gCx p l R s m args meth c D K RX6 cX6_handed 3 (Option.some Jvm.ClassFile.FieldType.int) [] "handed" u0) (hRf : R.frames = 3) (hRl : R.locals = 142) : ∀ (a0 : Option Nat) (a1 : Int32) (a2 : Int32) (t0 : Int32) (t1 : Option Nat) (S : gS), fX6_handed_j25 a0 a1 a2 t0 t1 S = some (r, S1) → gW p l e R s m args below meth c D K 3 u0 (gEnd below args s D K u0 (.inl (some (.int r))) S1) S 25 [(0, va_rf a0), (1, .int a1), (2, .int a2)] [.int t0, va_rf t1] := by
  intro a0 a1 a2 t0 t1 S hF
  unfold fX6_handed_j25 at hF
  refine g_iconst (v := (1 : Int32)) C dX6_handed_25 rfl ?_
  refine g_iconst (v := (1 : Int32)) C dX6_handed_26 rfl ?_
  obtain ⟨x1, S2, h, hF⟩ := gB_some hF
  obtain ⟨hi, h⟩ := gV_some h
  refine g_after (g_runV (n := 3) C dX6_handed_27 rfl hi (mX6_bad C.2.2.2.2.2.2.2.2.2.2.2.1 t1 t0 (1 : Int32) (1 : Int32) S _ _ h) (lw_V q2183 q2185 qs46 q124 q2186) (by decide +kernel) ⟨by rw [hRf]; exact Nat.le_of_ble_eq_true rfl, by rw [hRl]; exact Nat.le_of_ble_eq_true rfl⟩ rfl rfl (gle gc_0 (by decide))) ?_
  refine g_if_eq C 35 dX6_handed_30 rfl hF (fun c hF => ?_) (fun c hF => ?_)
  · refine g_aload_n C 0 dX6_handed_35 rfl ?_
    refine g_iload_n C 1 dX6_handed_36 rfl ?_
    refine g_iload_n C 2 dX6_handed_37 rfl ?_
    obtain ⟨x3, h, hF⟩ := oB hF
    obtain ⟨hi, h⟩ := gV_some h
    refine g_after (g_runV (n := 2) C dX6_handed_38 rfl hi (mX6_handedOf C.2.2.2.2.2.2.2.2.2.2.2.1 a0 a1 a2 S2 _ h) (lw_V q2440 q2442 qs87 q124 q2443) (by decide +kernel) ⟨by rw [hRf]; exact Nat.le_of_ble_eq_true rfl, by rw [hRl]; exact Nat.le_of_ble_eq_true rfl⟩ rfl rfl (gle gc_0 (by decide))) ?_
    cases hF
    exact g_iret C dX6_handed_41 rfl rfl
  · refine g_iconst (v := (0 : Int32)) C dX6_handed_33 rfl ?_
    cases hF
    exact g_iret C dX6_handed_34 rfl rfl
theorem wfX6_handed_j20 {r : Int32} {S1 : gS} (C : gCx p l R s m args meth c D K RX6 cX6_handed 3 (Option.some Jvm.ClassFile.FieldType.int) [] "handed" u0) (hRf : R.frames = 3) (hRl : R.locals = 142) : ∀ (a0 : Option Nat) (a1 : Int32) (a2 : Int32) (t0 : Option Nat) (S : gS), fX6_handed_j20 a0 a1 a2 t0 S = some (r, S1) → gW p l e R s m args below meth c D K 3 u0 (gEnd below args s D K u0 (.inl (some (.int r))) S1) S 20 [(0, va_rf a0), (1, .int a1), (2, .int a2)] [va_rf t0] := by
  intro a0 a1 a2 t0 S hF
  unfold fX6_handed_j20 at hF
  refine g_iconst (v := (1 : Int32)) C dX6_handed_20 rfl ?_
  refine g_goto C 25 dX6_handed_21 rfl ?_
  exact g_sub [0, 1, 2] rfl (wfX6_handed_j25 C hRf hRl a0 a1 a2 (1 : Int32) t0 S hF)
theorem mX6_handed {l : Launch} {D : gD} {K : gK} (hl : l.stackTraces = false) : ∀ (p0 : Option Nat) (p1 : Int32) (p2 : Int32) (S : gS) (r : Int32) (S1 : gS), fX6_handed p0 p1 p2 S = some (r, S1) → gMet l D K yX6_handed (ws_ yX6_handed cX6_handed 3 (Option.some Jvm.ClassFile.FieldType.int)) 3 142 [va_rf p0, .int p1, .int p2] S (.inl (some (.int r))) S1 := by
  intro p0 p1 p2 S r S1 hF
  unfold fX6_handed at hF
  refine gMet.of hl (by decide +kernel) rfl (gle (lgs_r (lgs_i (lgs_i lgs_0))) (by decide)) (fun p e s m below meth c R hRf hRl C _ => ?_)
  generalize hargs : ([va_rf p0, .int p1, .int p2] : List Value).toArray = args at C ⊢
  generalize hu0 : S.2.2.1 = u0 at C ⊢
  rw [show lv_args 0 [va_rf p0, .int p1, .int p2] = [(0, va_rf p0), (1, .int p1), (2, .int p2)] from (lva_r rfl (lva_i rfl (lva_i rfl lva_0)))]
  refine g_aload_n C 0 dX6_handed_0 rfl ?_
  refine g_iconst (v := (0 : Int32)) C dX6_handed_1 rfl ?_
  refine g_put C dX6_handed_2 fd_44 (Or.inl q2028) (Or.inl rfl) pf_0 rfl rfl hF (fun S1 hF => ?_)
  refine g_aload_n C 0 dX6_handed_5 rfl ?_
  refine g_iload_n C 1 dX6_handed_6 rfl ?_
  obtain ⟨x2, h, hF⟩ := oB hF
  refine g_after (g_runS (n := 1) C dX6_handed_7 (mX6_isVowel C.2.2.2.2.2.2.2.2.2.2.2.1 p1 S1 _ h) (lw_S q2410 q2411 q124 q2412) (by decide +kernel) ⟨by rw [hRf]; exact Nat.le_of_ble_eq_true rfl, by rw [hRl]; exact Nat.le_of_ble_eq_true rfl⟩ rfl rfl (gle (gc_r gc_0) (by decide))) ?_
  refine g_if_eq C 20 dX6_handed_10 rfl hF (fun c hF => ?_) (fun c hF => ?_)
  · exact g_sub [0, 1, 2] rfl (wfX6_handed_j20 C hRf hRl p0 p1 p2 p0 S1 hF)
  · refine g_iload_n C 2 dX6_handed_13 rfl ?_
    obtain ⟨x3, h, hF⟩ := oB hF
    refine g_after (g_runS (n := 1) C dX6_handed_14 (mX6_isVowel C.2.2.2.2.2.2.2.2.2.2.2.1 p2 S1 _ h) (lw_S q2410 q2411 q124 q2412) (by decide +kernel) ⟨by rw [hRf]; exact Nat.le_of_ble_eq_true rfl, by rw [hRl]; exact Nat.le_of_ble_eq_true rfl⟩ rfl rfl (gle (gc_r gc_0) (by decide))) ?_
    refine g_if_ne C 24 dX6_handed_17 rfl hF (fun c hF => ?_) (fun c hF => ?_)
    · refine g_iconst (v := (0 : Int32)) C dX6_handed_24 rfl ?_
      exact g_sub [0, 1, 2] rfl (wfX6_handed_j25 C hRf hRl p0 p1 p2 (0 : Int32) p0 S1 hF)
    · exact g_sub [0, 1, 2] rfl (wfX6_handed_j20 C hRf hRl p0 p1 p2 p0 S1 hF)
/-! VowelChoirModel.benches(III)V -/
def fX6_benches_i57 (rec : (Option Nat) → (Int32) → (Int32) → (Int32) → gS → Option (Unit × gS)) (ih : (Option Nat) → (Int32) → (Int32) → (Int32) → (Int32) → gS → Option (Unit × gS)) (a0 : Option Nat) (a1 : Int32) (a2 : Int32) (a3 : Int32) (a4 : Int32) (S : gS) : Option (Unit × gS) :=
  (oGetR [3] 12 a0 S).bind fun x1 =>
  (oLdI 0 x1 (0 : Int32) S).bind fun x2 =>
  (if x2 ≤ a4 then
  some ((), S)
  else
  (if (fX6_has a2 a4) = 0 then
  (oGetR [3] 41 a0 S).bind fun x3 =>
  (oStI 0 x3 a1 a4 S).bind fun S4 =>
  (if a1 = 0 then
  gB (gV [3] a0 S4 (rec a0 (a1 + (1 : Int32)) (a2 ||| ((1 : Int32) <<< (a4 &&& 31))) (a3 + (0 : Int32)) S4)) fun x16 S17 =>
  ih a0 a1 a2 a3 (a4 + (1 : Int32)) S17
  else
  (oGetR [3] 14 a0 S4).bind fun x5 =>
  (oGetR [3] 41 a0 S4).bind fun x6 =>
  (oLdI 0 x6 (a1 - (1 : Int32)) S4).bind fun x7 =>
  (oLdR 5 x5 x7 S4).bind fun x8 =>
  (oLdI 0 x8 (0 : Int32) S4).bind fun x9 =>
  (oGetR [3] 14 a0 S4).bind fun x10 =>
  (oLdR 5 x10 a4 S4).bind fun x11 =>
  (oLdI 0 x11 (0 : Int32) S4).bind fun x12 =>
  (gV [3] a0 S4 (fX6_handedOf a0 x9 x12 S4)).bind fun x13 =>
  gB (gV [3] a0 S4 (rec a0 (a1 + (1 : Int32)) (a2 ||| ((1 : Int32) <<< (a4 &&& 31))) (a3 + x13) S4)) fun x14 S15 =>
  ih a0 a1 a2 a3 (a4 + (1 : Int32)) S15)
  else
  ih a0 a1 a2 a3 (a4 + (1 : Int32)) S))
def fX6_benches_l57 (rec : (Option Nat) → (Int32) → (Int32) → (Int32) → gS → Option (Unit × gS)) : Nat → (Option Nat) → (Int32) → (Int32) → (Int32) → (Int32) → gS → Option (Unit × gS)
  | 0 => fun _ _ _ _ _ _ => none
  | n + 1 => fun a0 a1 a2 a3 a4 S => fX6_benches_i57 rec (fX6_benches_l57 rec n) a0 a1 a2 a3 a4 S
def fX6_benches_i27 (rec : (Option Nat) → (Int32) → (Int32) → (Int32) → gS → Option (Unit × gS)) (ih : (Option Nat) → (Int32) → (Int32) → gS → Option (Unit × gS)) (a0 : Option Nat) (a1 : Int32) (a4 : Int32) (S : gS) : Option (Unit × gS) :=
  (if a1 ≤ a4 then
  some ((), S)
  else
  (oGetR [3] 42 a0 S).bind fun x1 =>
  (oGetR [3] 41 a0 S).bind fun x2 =>
  (oLdI 0 x2 a4 S).bind fun x3 =>
  (oStI 0 x1 a4 x3 S).bind fun S4 =>
  ih a0 a1 (a4 + (1 : Int32)) S4)
def fX6_benches_l27 (rec : (Option Nat) → (Int32) → (Int32) → (Int32) → gS → Option (Unit × gS)) : Nat → (Option Nat) → (Int32) → (Int32) → gS → Option (Unit × gS)
  | 0 => fun _ _ _ _ => none
  | n + 1 => fun a0 a1 a4 S => fX6_benches_i27 rec (fX6_benches_l27 rec n) a0 a1 a4 S
def fX6_benches (rec : (Option Nat) → (Int32) → (Int32) → (Int32) → gS → Option (Unit × gS)) (p0 : Option Nat) (p1 : Int32) (p2 : Int32) (p3 : Int32) (S : gS) : Option (Unit × gS) :=
  (oGetR [3] 12 p0 S).bind fun x1 =>
  (oLdI 0 x1 (0 : Int32) S).bind fun x2 =>
  (if p1 = x2 then
  (oGetI [3] 43 p0 S).bind fun x3 =>
  (if x3 < p3 then
  (oPut [3] 43 p0 (.int p3) S).bind fun S4 =>
  fX6_benches_l27 rec gFU p0 p1 (0 : Int32) S4
  else
  some ((), S))
  else
  fX6_benches_l57 rec gFU p0 p1 p2 p3 (0 : Int32) S)
def rX6_benches : Nat → (Option Nat) → (Int32) → (Int32) → (Int32) → gS → Option (Unit × gS)
  | 0 => fun _ _ _ _ _ => none
  | d + 1 => fX6_benches (rX6_benches d)
theorem wfX6_benches_l57 {r : Unit} {S1 : gS} (C : gCx p l R s m args meth c D K RX6 cX6_benches 5 (Option.none : Option Jvm.ClassFile.FieldType) [] "benches" u0) {rec : (Option Nat) → (Int32) → (Int32) → (Int32) → gS → Option (Unit × gS)} {fr0 lo0 : Nat} (hrec : ∀ (p0 : Option Nat) (p1 : Int32) (p2 : Int32) (p3 : Int32) (S : gS) (r : Unit) (S1 : gS), rec p0 p1 p2 p3 S = some (r, S1) → gMet l D K yX6_benches (ws_ yX6_benches cX6_benches 5 (Option.none : Option Jvm.ClassFile.FieldType)) fr0 lo0 [va_rf p0, .int p1, .int p2, .int p3] S (.inl none) S1) (hRf : R.frames = (fr0 + 2)) (hRl : R.locals = (lo0 + 126)) : ∀ (n : Nat) (a0 : Option Nat) (a1 : Int32) (a2 : Int32) (a3 : Int32) (a4 : Int32) (S : gS), fX6_benches_l57 rec n a0 a1 a2 a3 a4 S = some (r, S1) → gW p l e R s m args below meth c D K 5 u0 (gEnd below args s D K u0 (.inl none) S1) S 57 [(0, va_rf a0), (1, .int a1), (2, .int a2), (3, .int a3), (4, .int a4)] [] := by
  intro n
  induction n with
  | zero => intro a0 a1 a2 a3 a4 S hF; cases hF
  | succ n hih =>
    intro a0 a1 a2 a3 a4 S hF
    have hF : fX6_benches_i57 rec (fX6_benches_l57 rec n) a0 a1 a2 a3 a4 S = some (r, S1) := hF
    revert hF hih
    generalize fX6_benches_l57 rec n = ih
    intro hih hF
    unfold fX6_benches_i57 at hF
    refine g_iload C 4 dX6_benches_57 rfl ?_
    refine g_aload_n C 0 dX6_benches_59 rfl ?_
    refine g_getR C dX6_benches_60 fd_15 (Or.inl q2040) (Or.inl rfl) hF (fun x1 hF => ?_)
    refine g_iconst (v := (0 : Int32)) C dX6_benches_63 rfl ?_
    refine g_iald C dX6_benches_64 hF (fun x2 hF => ?_)
    refine g_icmp_ge C 145 dX6_benches_65 rfl hF (fun c hF => ?_) (fun c hF => ?_)
    · cases hF
      exact g_vret C dX6_benches_145 rfl rfl
    · refine g_iload_n C 2 dX6_benches_68 rfl ?_
      refine g_iload C 4 dX6_benches_69 rfl ?_
      refine g_after (g_runS (n := 2) C dX6_benches_71 (mX6_has C.2.2.2.2.2.2.2.2.2.2.2.1 a2 a4 S _ rfl) (lw_S q2288 q2289 q124 q2290) (by decide +kernel) ⟨by rw [hRf]; omega, by rw [hRl]; omega⟩ rfl rfl (gle gc_0 (by decide))) ?_
      refine g_if_eq C 80 dX6_benches_74 rfl hF (fun c hF => ?_) (fun c hF => ?_)
      · refine g_aload_n C 0 dX6_benches_80 rfl ?_
        refine g_getR C dX6_benches_81 fd_41 (Or.inl q2069) (Or.inl rfl) hF (fun x3 hF => ?_)
        refine g_iload_n C 1 dX6_benches_84 rfl ?_
        refine g_iload C 4 dX6_benches_85 rfl ?_
        refine g_iast C dX6_benches_87 hF (fun S4 hF => ?_)
        refine g_aload_n C 0 dX6_benches_88 rfl ?_
        refine g_iload_n C 1 dX6_benches_89 rfl ?_
        refine g_iconst (v := (1 : Int32)) C dX6_benches_90 rfl ?_
        refine g_iadd C dX6_benches_91 ?_
        refine g_iload_n C 2 dX6_benches_92 rfl ?_
        refine g_iconst (v := (1 : Int32)) C dX6_benches_93 rfl ?_
        refine g_iload C 4 dX6_benches_94 rfl ?_
        refine g_ishl C dX6_benches_96 ?_
        refine g_ior C dX6_benches_97 ?_
        refine g_iload_n C 3 dX6_benches_98 rfl ?_
        refine g_iload_n C 1 dX6_benches_99 rfl ?_
        refine g_if_ne C 107 dX6_benches_100 rfl hF (fun c hF => ?_) (fun c hF => ?_)
        · refine g_aload_n C 0 dX6_benches_107 rfl ?_
          refine g_aload_n C 0 dX6_benches_108 rfl ?_
          refine g_getR C dX6_benches_109 fd_16 (Or.inl q2042) (Or.inl rfl) hF (fun x5 hF => ?_)
          refine g_aload_n C 0 dX6_benches_112 rfl ?_
          refine g_getR C dX6_benches_113 fd_41 (Or.inl q2069) (Or.inl rfl) hF (fun x6 hF => ?_)
          refine g_iload_n C 1 dX6_benches_116 rfl ?_
          refine g_iconst (v := (1 : Int32)) C dX6_benches_117 rfl ?_
          refine g_isub C dX6_benches_118 ?_
          refine g_iald C dX6_benches_119 hF (fun x7 hF => ?_)
          refine g_aald C (kd := 5) rfl dX6_benches_120 hF (fun x8 hF => ?_)
          refine g_iconst (v := (0 : Int32)) C dX6_benches_121 rfl ?_
          refine g_iald C dX6_benches_122 hF (fun x9 hF => ?_)
          refine g_aload_n C 0 dX6_benches_123 rfl ?_
          refine g_getR C dX6_benches_124 fd_16 (Or.inl q2042) (Or.inl rfl) hF (fun x10 hF => ?_)
          refine g_iload C 4 dX6_benches_127 rfl ?_
          refine g_aald C (kd := 5) rfl dX6_benches_129 hF (fun x11 hF => ?_)
          refine g_iconst (v := (0 : Int32)) C dX6_benches_130 rfl ?_
          refine g_iald C dX6_benches_131 hF (fun x12 hF => ?_)
          obtain ⟨x13, h, hF⟩ := oB hF
          obtain ⟨hi, h⟩ := gV_some h
          refine g_after (g_runV (n := 2) C dX6_benches_132 rfl hi (mX6_handedOf C.2.2.2.2.2.2.2.2.2.2.2.1 a0 x9 x12 S4 _ h) (lw_V q2440 q2442 qs87 q124 q2443) (by decide +kernel) ⟨by rw [hRf]; omega, by rw [hRl]; omega⟩ rfl rfl (gle (gc_i (gc_i (gc_i (gc_r gc_0)))) (by decide))) ?_
          refine g_iadd C dX6_benches_135 ?_
          obtain ⟨x14, S15, h, hF⟩ := gB_some hF
          obtain ⟨hi, h⟩ := gV_some h
          refine g_after (g_runV (n := 3) C dX6_benches_136 rfl hi (hrec a0 (a1 + (1 : Int32)) (a2 ||| ((1 : Int32) <<< (a4 &&& 31))) (a3 + x13) S4 _ _ h) (lw_V q2452 q2454 qs89 q124 q2455) (by decide +kernel) ⟨by rw [hRf]; omega, by rw [hRl]; omega⟩ rfl rfl (gle gc_0 (by decide))) ?_
          refine g_iinc (v := (1 : Int32)) C 4 dX6_benches_139 rfl rfl (by decide) rfl ?_
          refine g_goto C 57 dX6_benches_142 rfl ?_
          exact g_sub [1, 2, 3, 4, 0] rfl (hih a0 a1 a2 a3 (a4 + (1 : Int32)) S15 hF)
        · refine g_iconst (v := (0 : Int32)) C dX6_benches_103 rfl ?_
          refine g_goto C 135 dX6_benches_104 rfl ?_
          refine g_iadd C dX6_benches_135 ?_
          obtain ⟨x16, S17, h, hF⟩ := gB_some hF
          obtain ⟨hi, h⟩ := gV_some h
          refine g_after (g_runV (n := 3) C dX6_benches_136 rfl hi (hrec a0 (a1 + (1 : Int32)) (a2 ||| ((1 : Int32) <<< (a4 &&& 31))) (a3 + (0 : Int32)) S4 _ _ h) (lw_V q2452 q2454 qs89 q124 q2455) (by decide +kernel) ⟨by rw [hRf]; omega, by rw [hRl]; omega⟩ rfl rfl (gle gc_0 (by decide))) ?_
          refine g_iinc (v := (1 : Int32)) C 4 dX6_benches_139 rfl rfl (by decide) rfl ?_
          refine g_goto C 57 dX6_benches_142 rfl ?_
          exact g_sub [1, 2, 3, 4, 0] rfl (hih a0 a1 a2 a3 (a4 + (1 : Int32)) S17 hF)
      · refine g_goto C 139 dX6_benches_77 rfl ?_
        refine g_iinc (v := (1 : Int32)) C 4 dX6_benches_139 rfl rfl (by decide) rfl ?_
        refine g_goto C 57 dX6_benches_142 rfl ?_
        exact g_sub [1, 2, 3, 4, 0] rfl (hih a0 a1 a2 a3 (a4 + (1 : Int32)) S hF)
theorem wfX6_benches_l27 {r : Unit} {S1 : gS} (C : gCx p l R s m args meth c D K RX6 cX6_benches 5 (Option.none : Option Jvm.ClassFile.FieldType) [] "benches" u0) {rec : (Option Nat) → (Int32) → (Int32) → (Int32) → gS → Option (Unit × gS)} {fr0 lo0 : Nat} (hrec : ∀ (p0 : Option Nat) (p1 : Int32) (p2 : Int32) (p3 : Int32) (S : gS) (r : Unit) (S1 : gS), rec p0 p1 p2 p3 S = some (r, S1) → gMet l D K yX6_benches (ws_ yX6_benches cX6_benches 5 (Option.none : Option Jvm.ClassFile.FieldType)) fr0 lo0 [va_rf p0, .int p1, .int p2, .int p3] S (.inl none) S1) (hRf : R.frames = (fr0 + 2)) (hRl : R.locals = (lo0 + 126)) : ∀ (n : Nat) (a0 : Option Nat) (a1 : Int32) (a4 : Int32) (S : gS), fX6_benches_l27 rec n a0 a1 a4 S = some (r, S1) → gW p l e R s m args below meth c D K 5 u0 (gEnd below args s D K u0 (.inl none) S1) S 27 [(0, va_rf a0), (1, .int a1), (4, .int a4)] [] := by
  intro n
  induction n with
  | zero => intro a0 a1 a4 S hF; cases hF
  | succ n hih =>
    intro a0 a1 a4 S hF
    have hF : fX6_benches_i27 rec (fX6_benches_l27 rec n) a0 a1 a4 S = some (r, S1) := hF
    revert hF hih
    generalize fX6_benches_l27 rec n = ih
    intro hih hF
    unfold fX6_benches_i27 at hF
    refine g_iload C 2 dX6_benches_27 rfl ?_
    refine g_iload_n C 1 dX6_benches_29 rfl ?_
    refine g_icmp_ge C 53 dX6_benches_30 rfl hF (fun c hF => ?_) (fun c hF => ?_)
    · cases hF
      exact g_vret C dX6_benches_53 rfl rfl
    · refine g_aload_n C 0 dX6_benches_33 rfl ?_
      refine g_getR C dX6_benches_34 fd_42 (Or.inl q2070) (Or.inl rfl) hF (fun x1 hF => ?_)
      refine g_iload C 2 dX6_benches_37 rfl ?_
      refine g_aload_n C 0 dX6_benches_39 rfl ?_
      refine g_getR C dX6_benches_40 fd_41 (Or.inl q2069) (Or.inl rfl) hF (fun x2 hF => ?_)
      refine g_iload C 2 dX6_benches_43 rfl ?_
      refine g_iald C dX6_benches_45 hF (fun x3 hF => ?_)
      refine g_iast C dX6_benches_46 hF (fun S4 hF => ?_)
      refine g_iinc (v := (1 : Int32)) C 2 dX6_benches_47 rfl rfl (by decide) rfl ?_
      refine g_goto C 27 dX6_benches_50 rfl ?_
      exact g_sub [1, 2, 0] rfl (hih a0 a1 (a4 + (1 : Int32)) S4 hF)
theorem mX6_benches {l : Launch} {D : gD} {K : gK} (hl : l.stackTraces = false) {rec : (Option Nat) → (Int32) → (Int32) → (Int32) → gS → Option (Unit × gS)} {fr0 lo0 : Nat} (hrec : ∀ (p0 : Option Nat) (p1 : Int32) (p2 : Int32) (p3 : Int32) (S : gS) (r : Unit) (S1 : gS), rec p0 p1 p2 p3 S = some (r, S1) → gMet l D K yX6_benches (ws_ yX6_benches cX6_benches 5 (Option.none : Option Jvm.ClassFile.FieldType)) fr0 lo0 [va_rf p0, .int p1, .int p2, .int p3] S (.inl none) S1) : ∀ (p0 : Option Nat) (p1 : Int32) (p2 : Int32) (p3 : Int32) (S : gS) (r : Unit) (S1 : gS), fX6_benches rec p0 p1 p2 p3 S = some (r, S1) → gMet l D K yX6_benches (ws_ yX6_benches cX6_benches 5 (Option.none : Option Jvm.ClassFile.FieldType)) (fr0 + 2) (lo0 + 126) [va_rf p0, .int p1, .int p2, .int p3] S (.inl none) S1 := by
  intro p0 p1 p2 p3 S r S1 hF
  unfold fX6_benches at hF
  refine gMet.of hl (by decide +kernel) rfl (gle (lgs_r (lgs_i (lgs_i (lgs_i lgs_0)))) (by decide)) (fun p e s m below meth c R hRf hRl C _ => ?_)
  generalize hargs : ([va_rf p0, .int p1, .int p2, .int p3] : List Value).toArray = args at C ⊢
  generalize hu0 : S.2.2.1 = u0 at C ⊢
  rw [show lv_args 0 [va_rf p0, .int p1, .int p2, .int p3] = [(0, va_rf p0), (1, .int p1), (2, .int p2), (3, .int p3)] from (lva_r rfl (lva_i rfl (lva_i rfl (lva_i rfl lva_0))))]
  refine g_iload_n C 1 dX6_benches_0 rfl ?_
  refine g_aload_n C 0 dX6_benches_1 rfl ?_
  refine g_getR C dX6_benches_2 fd_15 (Or.inl q2040) (Or.inl rfl) hF (fun x1 hF => ?_)
  refine g_iconst (v := (0 : Int32)) C dX6_benches_5 rfl ?_
  refine g_iald C dX6_benches_6 hF (fun x2 hF => ?_)
  refine g_icmp_ne C 54 dX6_benches_7 rfl hF (fun c hF => ?_) (fun c hF => ?_)
  · refine g_iconst (v := (0 : Int32)) C dX6_benches_54 rfl ?_
    refine g_istore C dX6_benches_55 (by decide) rfl ?_
    exact g_sub [1, 2, 3, 4, 0] rfl (wfX6_benches_l57 C hrec hRf hRl gFU p0 p1 p2 p3 (0 : Int32) S hF)
  · refine g_iload_n C 3 dX6_benches_10 rfl ?_
    refine g_aload_n C 0 dX6_benches_11 rfl ?_
    refine g_getI C dX6_benches_12 fd_57 (Or.inl q2071) (Or.inl rfl) hF (fun x3 hF => ?_)
    refine g_icmp_gt C 19 dX6_benches_15 rfl hF (fun c hF => ?_) (fun c hF => ?_)
    · refine g_aload_n C 0 dX6_benches_19 rfl ?_
      refine g_iload_n C 3 dX6_benches_20 rfl ?_
      refine g_put C dX6_benches_21 fd_57 (Or.inl q2071) (Or.inl rfl) pf_0 rfl rfl hF (fun S4 hF => ?_)
      refine g_iconst (v := (0 : Int32)) C dX6_benches_24 rfl ?_
      refine g_istore C dX6_benches_25 (by decide) rfl ?_
      exact g_sub [1, 2, 0] rfl (wfX6_benches_l27 C hrec hRf hRl gFU p0 p1 (0 : Int32) S4 hF)
    · cases hF
      exact g_vret C dX6_benches_18 rfl rfl
theorem kX6_benches {l : Launch} {D : gD} {K : gK} (hl : l.stackTraces = false) : ∀ (d : Nat) (p0 : Option Nat) (p1 : Int32) (p2 : Int32) (p3 : Int32) (S : gS) (r : Unit) (S1 : gS), rX6_benches d p0 p1 p2 p3 S = some (r, S1) → gMet l D K yX6_benches (ws_ yX6_benches cX6_benches 5 (Option.none : Option Jvm.ClassFile.FieldType)) (2 * d) (126 * d) [va_rf p0, .int p1, .int p2, .int p3] S (.inl none) S1 := by
  intro d
  induction d with
  | zero => intro p0 p1 p2 p3 S r S1 hF; cases hF
  | succ d ih =>
    intro p0 p1 p2 p3 S r S1 hF
    exact mX6_benches hl ih p0 p1 p2 p3 S r S1 hF
/-! VowelChoirModel.laysBench()V -/
def fX6_laysBench (p0 : Option Nat) (S : gS) : Option (Unit × gS) :=
  (oPut [3] 43 p0 (.int ((-1 : Int32))) S).bind fun S1 =>
  gB (gV [3] p0 S1 (rX6_benches 10 p0 (0 : Int32) (0 : Int32) (0 : Int32) S1)) fun x2 S3 =>
  some ((), S3)
theorem mX6_laysBench {l : Launch} {D : gD} {K : gK} (hl : l.stackTraces = false) : ∀ (p0 : Option Nat) (S : gS) (r : Unit) (S1 : gS), fX6_laysBench p0 S = some (r, S1) → gMet l D K yX6_laysBench (ws_ yX6_laysBench cX6_laysBench 1 (Option.none : Option Jvm.ClassFile.FieldType)) 21 1284 [va_rf p0] S (.inl none) S1 := by
  intro p0 S r S1 hF
  unfold fX6_laysBench at hF
  refine gMet.of hl (by decide +kernel) rfl (gle (lgs_r lgs_0) (by decide)) (fun p e s m below meth c R hRf hRl C _ => ?_)
  generalize hargs : ([va_rf p0] : List Value).toArray = args at C ⊢
  generalize hu0 : S.2.2.1 = u0 at C ⊢
  rw [show lv_args 0 [va_rf p0] = [(0, va_rf p0)] from (lva_r rfl lva_0)]
  refine g_aload_n C 0 dX6_laysBench_0 rfl ?_
  refine g_iconst (v := (-1 : Int32)) C dX6_laysBench_1 rfl ?_
  refine g_put C dX6_laysBench_2 fd_57 (Or.inl q2071) (Or.inl rfl) pf_0 rfl rfl hF (fun S1 hF => ?_)
  refine g_aload_n C 0 dX6_laysBench_5 rfl ?_
  refine g_iconst (v := (0 : Int32)) C dX6_laysBench_6 rfl ?_
  refine g_iconst (v := (0 : Int32)) C dX6_laysBench_7 rfl ?_
  refine g_iconst (v := (0 : Int32)) C dX6_laysBench_8 rfl ?_
  obtain ⟨x2, S3, h, hF⟩ := gB_some hF
  obtain ⟨hi, h⟩ := gV_some h
  refine g_after (g_runV (n := 3) C dX6_laysBench_9 rfl hi (kX6_benches C.2.2.2.2.2.2.2.2.2.2.2.1 10 p0 (0 : Int32) (0 : Int32) (0 : Int32) S1 _ _ h) (lw_V q2452 q2454 qs89 q124 q2455) (by decide +kernel) ⟨by rw [hRf]; exact Nat.le_of_ble_eq_true rfl, by rw [hRl]; exact Nat.le_of_ble_eq_true rfl⟩ rfl rfl (gle gc_0 (by decide))) ?_
  cases hF
  exact g_vret C dX6_laysBench_12 rfl rfl
/-! VowelChoirModel.bench()I -/
def fX6_bench (p0 : Option Nat) (S : gS) : Option (Int32 × gS) :=
  (oPut [3] 0 p0 (.int ((0 : Int32))) S).bind fun S1 =>
  gB (gV [3] p0 S1 (fX6_laysBench p0 S1)) fun x2 S3 =>
  (oGetI [3] 43 p0 S3).bind fun x4 =>
  some (x4, S3)
theorem mX6_bench {l : Launch} {D : gD} {K : gK} (hl : l.stackTraces = false) : ∀ (p0 : Option Nat) (S : gS) (r : Int32) (S1 : gS), fX6_bench p0 S = some (r, S1) → gMet l D K yX6_bench (ws_ yX6_bench cX6_bench 1 (Option.some Jvm.ClassFile.FieldType.int)) 22 1304 [va_rf p0] S (.inl (some (.int r))) S1 := by
  intro p0 S r S1 hF
  unfold fX6_bench at hF
  refine gMet.of hl (by decide +kernel) rfl (gle (lgs_r lgs_0) (by decide)) (fun p e s m below meth c R hRf hRl C _ => ?_)
  generalize hargs : ([va_rf p0] : List Value).toArray = args at C ⊢
  generalize hu0 : S.2.2.1 = u0 at C ⊢
  rw [show lv_args 0 [va_rf p0] = [(0, va_rf p0)] from (lva_r rfl lva_0)]
  refine g_aload_n C 0 dX6_bench_0 rfl ?_
  refine g_iconst (v := (0 : Int32)) C dX6_bench_1 rfl ?_
  refine g_put C dX6_bench_2 fd_44 (Or.inl q2028) (Or.inl rfl) pf_0 rfl rfl hF (fun S1 hF => ?_)
  refine g_aload_n C 0 dX6_bench_5 rfl ?_
  obtain ⟨x2, S3, h, hF⟩ := gB_some hF
  obtain ⟨hi, h⟩ := gV_some h
  refine g_after (g_runV (n := 0) C dX6_bench_6 rfl hi (mX6_laysBench C.2.2.2.2.2.2.2.2.2.2.2.1 p0 S1 _ _ h) (lw_V q2448 q2450 qs88 q124 q2451) (by decide +kernel) ⟨by rw [hRf]; exact Nat.le_of_ble_eq_true rfl, by rw [hRl]; exact Nat.le_of_ble_eq_true rfl⟩ rfl rfl (gle gc_0 (by decide))) ?_
  refine g_aload_n C 0 dX6_bench_9 rfl ?_
  refine g_getI C dX6_bench_10 fd_57 (Or.inl q2071) (Or.inl rfl) hF (fun x4 hF => ?_)
  cases hF
  exact g_iret C dX6_bench_13 rfl rfl
/-! VowelChoirModel.benched(I)I -/
def fX6_benched_j15 (a0 : Option Nat) (a1 : Int32) (t0 : Int32) (t1 : Option Nat) (S : gS) : Option (Int32 × gS) :=
  gB (gV [3] t1 S (fX6_bad t1 t0 (1 : Int32) (1 : Int32) S)) fun x1 S2 =>
  (if x1 = 0 then
  gB (gV [3] a0 S2 (fX6_laysBench a0 S2)) fun x3 S4 =>
  (oGetR [3] 12 a0 S4).bind fun x5 =>
  (oLdI 0 x5 (0 : Int32) S4).bind fun x6 =>
  (if x6 ≤ a1 then
  some ((-1 : Int32), S4)
  else
  (oGetR [3] 42 a0 S4).bind fun x7 =>
  (oLdI 0 x7 a1 S4).bind fun x8 =>
  some (x8, S4))
  else
  some ((0 : Int32), S2))
def fX6_benched (p0 : Option Nat) (p1 : Int32) (S : gS) : Option (Int32 × gS) :=
  (oPut [3] 0 p0 (.int ((0 : Int32))) S).bind fun S1 =>
  (if 0 ≤ p1 then
  fX6_benched_j15 p0 p1 (0 : Int32) p0 S1
  else
  fX6_benched_j15 p0 p1 (1 : Int32) p0 S1)
theorem wfX6_benched_j15 {r : Int32} {S1 : gS} (C : gCx p l R s m args meth c D K RX6 cX6_benched 2 (Option.some Jvm.ClassFile.FieldType.int) [] "benched" u0) (hRf : R.frames = 22) (hRl : R.locals = 1304) : ∀ (a0 : Option Nat) (a1 : Int32) (t0 : Int32) (t1 : Option Nat) (S : gS), fX6_benched_j15 a0 a1 t0 t1 S = some (r, S1) → gW p l e R s m args below meth c D K 2 u0 (gEnd below args s D K u0 (.inl (some (.int r))) S1) S 15 [(0, va_rf a0), (1, .int a1)] [.int t0, va_rf t1] := by
  intro a0 a1 t0 t1 S hF
  unfold fX6_benched_j15 at hF
  refine g_iconst (v := (1 : Int32)) C dX6_benched_15 rfl ?_
  refine g_iconst (v := (1 : Int32)) C dX6_benched_16 rfl ?_
  obtain ⟨x1, S2, h, hF⟩ := gB_some hF
  obtain ⟨hi, h⟩ := gV_some h
  refine g_after (g_runV (n := 3) C dX6_benched_17 rfl hi (mX6_bad C.2.2.2.2.2.2.2.2.2.2.2.1 t1 t0 (1 : Int32) (1 : Int32) S _ _ h) (lw_V q2183 q2185 qs46 q124 q2186) (by decide +kernel) ⟨by rw [hRf]; exact Nat.le_of_ble_eq_true rfl, by rw [hRl]; exact Nat.le_of_ble_eq_true rfl⟩ rfl rfl (gle gc_0 (by decide))) ?_
  refine g_if_eq C 25 dX6_benched_20 rfl hF (fun c hF => ?_) (fun c hF => ?_)
  · refine g_aload_n C 0 dX6_benched_25 rfl ?_
    obtain ⟨x3, S4, h, hF⟩ := gB_some hF
    obtain ⟨hi, h⟩ := gV_some h
    refine g_after (g_runV (n := 0) C dX6_benched_26 rfl hi (mX6_laysBench C.2.2.2.2.2.2.2.2.2.2.2.1 a0 S2 _ _ h) (lw_V q2448 q2450 qs88 q124 q2451) (by decide +kernel) ⟨by rw [hRf]; exact Nat.le_of_ble_eq_true rfl, by rw [hRl]; exact Nat.le_of_ble_eq_true rfl⟩ rfl rfl (gle gc_0 (by decide))) ?_
    refine g_iload_n C 1 dX6_benched_29 rfl ?_
    refine g_aload_n C 0 dX6_benched_30 rfl ?_
    refine g_getR C dX6_benched_31 fd_15 (Or.inl q2040) (Or.inl rfl) hF (fun x5 hF => ?_)
    refine g_iconst (v := (0 : Int32)) C dX6_benched_34 rfl ?_
    refine g_iald C dX6_benched_35 hF (fun x6 hF => ?_)
    refine g_icmp_ge C 48 dX6_benched_36 rfl hF (fun c hF => ?_) (fun c hF => ?_)
    · refine g_iconst (v := (-1 : Int32)) C dX6_benched_48 rfl ?_
      cases hF
      exact g_iret C dX6_benched_49 rfl rfl
    · refine g_aload_n C 0 dX6_benched_39 rfl ?_
      refine g_getR C dX6_benched_40 fd_42 (Or.inl q2070) (Or.inl rfl) hF (fun x7 hF => ?_)
      refine g_iload_n C 1 dX6_benched_43 rfl ?_
      refine g_iald C dX6_benched_44 hF (fun x8 hF => ?_)
      refine g_goto C 49 dX6_benched_45 rfl ?_
      cases hF
      exact g_iret C dX6_benched_49 rfl rfl
  · refine g_iconst (v := (0 : Int32)) C dX6_benched_23 rfl ?_
    cases hF
    exact g_iret C dX6_benched_24 rfl rfl
theorem mX6_benched {l : Launch} {D : gD} {K : gK} (hl : l.stackTraces = false) : ∀ (p0 : Option Nat) (p1 : Int32) (S : gS) (r : Int32) (S1 : gS), fX6_benched p0 p1 S = some (r, S1) → gMet l D K yX6_benched (ws_ yX6_benched cX6_benched 2 (Option.some Jvm.ClassFile.FieldType.int)) 22 1304 [va_rf p0, .int p1] S (.inl (some (.int r))) S1 := by
  intro p0 p1 S r S1 hF
  unfold fX6_benched at hF
  refine gMet.of hl (by decide +kernel) rfl (gle (lgs_r (lgs_i lgs_0)) (by decide)) (fun p e s m below meth c R hRf hRl C _ => ?_)
  generalize hargs : ([va_rf p0, .int p1] : List Value).toArray = args at C ⊢
  generalize hu0 : S.2.2.1 = u0 at C ⊢
  rw [show lv_args 0 [va_rf p0, .int p1] = [(0, va_rf p0), (1, .int p1)] from (lva_r rfl (lva_i rfl lva_0))]
  refine g_aload_n C 0 dX6_benched_0 rfl ?_
  refine g_iconst (v := (0 : Int32)) C dX6_benched_1 rfl ?_
  refine g_put C dX6_benched_2 fd_44 (Or.inl q2028) (Or.inl rfl) pf_0 rfl rfl hF (fun S1 hF => ?_)
  refine g_aload_n C 0 dX6_benched_5 rfl ?_
  refine g_iload_n C 1 dX6_benched_6 rfl ?_
  refine g_if_ge C 14 dX6_benched_7 rfl hF (fun c hF => ?_) (fun c hF => ?_)
  · refine g_iconst (v := (0 : Int32)) C dX6_benched_14 rfl ?_
    exact g_sub [0, 1] rfl (wfX6_benched_j15 C hRf hRl p0 p1 (0 : Int32) p0 S1 hF)
  · refine g_iconst (v := (1 : Int32)) C dX6_benched_10 rfl ?_
    refine g_goto C 15 dX6_benched_11 rfl ?_
    exact g_sub [0, 1] rfl (wfX6_benched_j15 C hRf hRl p0 p1 (1 : Int32) p0 S1 hF)
/-! VowelChoirModel.wording()I -/
def fX6_wording_i34 (k10 : (Option Nat) → (Int32) → (Int32) → gS → Option (Int32 × gS)) (ih : (Option Nat) → (Int32) → (Int32) → (Int32) → (Int32) → gS → Option (Int32 × gS)) (a0 : Option Nat) (a1 : Int32) (a2 : Int32) (a3 : Int32) (a4 : Int32) (S : gS) : Option (Int32 × gS) :=
  (oGetR [3] 12 a0 S).bind fun x1 =>
  (oLdI 0 x1 (1 : Int32) S).bind fun x2 =>
  (if x2 ≤ a4 then
  (if a3 = 0 then
  k10 a0 a1 (a2 + (-1 : Int32)) S
  else
  k10 a0 a2 (a2 + (-1 : Int32)) S)
  else
  (gV [3] a0 S (fX6_wordsOf a0 a4 S)).bind fun x3 =>
  (if (x3 &&& a2) = 0 then
  ih a0 a1 a2 (a3 &&& (0 : Int32)) (a4 + (1 : Int32)) S
  else
  ih a0 a1 a2 (a3 &&& (1 : Int32)) (a4 + (1 : Int32)) S))
def fX6_wording_l34 (k10 : (Option Nat) → (Int32) → (Int32) → gS → Option (Int32 × gS)) : Nat → (Option Nat) → (Int32) → (Int32) → (Int32) → (Int32) → gS → Option (Int32 × gS)
  | 0 => fun _ _ _ _ _ _ => none
  | n + 1 => fun a0 a1 a2 a3 a4 S => fX6_wording_i34 k10 (fX6_wording_l34 k10 n) a0 a1 a2 a3 a4 S
def fX6_wording_i10 (ih : (Option Nat) → (Int32) → (Int32) → gS → Option (Int32 × gS)) (a0 : Option Nat) (a1 : Int32) (a2 : Int32) (S : gS) : Option (Int32 × gS) :=
  (if a2 < 0 then
  some (a1, S)
  else
  (fX6_ones a2 S).bind fun x1 =>
  (fX6_ones a1 S).bind fun x2 =>
  (if x2 < x1 then
  fX6_wording_l34 ih gFU a0 a1 a2 (0 : Int32) (0 : Int32) S
  else
  fX6_wording_l34 ih gFU a0 a1 a2 (1 : Int32) (0 : Int32) S))
def fX6_wording_l10 : Nat → (Option Nat) → (Int32) → (Int32) → gS → Option (Int32 × gS)
  | 0 => fun _ _ _ _ => none
  | n + 1 => fun a0 a1 a2 S => fX6_wording_i10 (fX6_wording_l10 n) a0 a1 a2 S
def fX6_wording (p0 : Option Nat) (S : gS) : Option (Int32 × gS) :=
  (oPut [3] 0 p0 (.int ((0 : Int32))) S).bind fun S1 =>
  fX6_wording_l10 gFU p0 (63 : Int32) (63 : Int32) S1
theorem wfX6_wording_l34 {r : Int32} {S1 : gS} (C : gCx p l R s m args meth c D K RX6 cX6_wording 5 (Option.some Jvm.ClassFile.FieldType.int) [] "wording" u0) (hRf : R.frames = 2) (hRl : R.locals = 123) (k10 : (Option Nat) → (Int32) → (Int32) → gS → Option (Int32 × gS)) (hk10 : ∀ (a0 : Option Nat) (a1 : Int32) (a2 : Int32) (S : gS), k10 a0 a1 a2 S = some (r, S1) → gW p l e R s m args below meth c D K 5 u0 (gEnd below args s D K u0 (.inl (some (.int r))) S1) S 10 [(0, va_rf a0), (1, .int a1), (2, .int a2)] []) : ∀ (n : Nat) (a0 : Option Nat) (a1 : Int32) (a2 : Int32) (a3 : Int32) (a4 : Int32) (S : gS), fX6_wording_l34 k10 n a0 a1 a2 a3 a4 S = some (r, S1) → gW p l e R s m args below meth c D K 5 u0 (gEnd below args s D K u0 (.inl (some (.int r))) S1) S 34 [(0, va_rf a0), (1, .int a1), (2, .int a2), (3, .int a3), (4, .int a4)] [] := by
  intro n
  induction n with
  | zero => intro a0 a1 a2 a3 a4 S hF; cases hF
  | succ n hih =>
    intro a0 a1 a2 a3 a4 S hF
    have hF : fX6_wording_i34 k10 (fX6_wording_l34 k10 n) a0 a1 a2 a3 a4 S = some (r, S1) := hF
    revert hF hih
    generalize fX6_wording_l34 k10 n = ih
    intro hih hF
    unfold fX6_wording_i34 at hF
    refine g_iload C 4 dX6_wording_34 rfl ?_
    refine g_aload_n C 0 dX6_wording_36 rfl ?_
    refine g_getR C dX6_wording_37 fd_15 (Or.inl q2040) (Or.inl rfl) hF (fun x1 hF => ?_)
    refine g_iconst (v := (1 : Int32)) C dX6_wording_40 rfl ?_
    refine g_iald C dX6_wording_41 hF (fun x2 hF => ?_)
    refine g_icmp_ge C 70 dX6_wording_42 rfl hF (fun c hF => ?_) (fun c hF => ?_)
    · refine g_iload_n C 3 dX6_wording_70 rfl ?_
      refine g_if_eq C 78 dX6_wording_71 rfl hF (fun c hF => ?_) (fun c hF => ?_)
      · refine g_iload_n C 1 dX6_wording_78 rfl ?_
        refine g_istore_n C dX6_wording_79 (by decide) (gcons rfl (gfr rfl (gfd rfl (gfk rfl rfl (gfk rfl rfl (gfk rfl rfl gf0)))))) ?_
        refine g_iinc (v := (-1 : Int32)) C 2 dX6_wording_80 rfl rfl (by decide) rfl ?_
        refine g_goto C 10 dX6_wording_83 rfl ?_
        exact g_sub [2, 1, 0] rfl (hk10 a0 a1 (a2 + (-1 : Int32)) S hF)
      · refine g_iload_n C 2 dX6_wording_74 rfl ?_
        refine g_goto C 79 dX6_wording_75 rfl ?_
        refine g_istore_n C dX6_wording_79 (by decide) (gcons rfl (gfr rfl (gfd rfl (gfk rfl rfl (gfk rfl rfl (gfk rfl rfl gf0)))))) ?_
        refine g_iinc (v := (-1 : Int32)) C 2 dX6_wording_80 rfl rfl (by decide) rfl ?_
        refine g_goto C 10 dX6_wording_83 rfl ?_
        exact g_sub [2, 1, 0] rfl (hk10 a0 a2 (a2 + (-1 : Int32)) S hF)
    · refine g_iload_n C 3 dX6_wording_45 rfl ?_
      refine g_aload_n C 0 dX6_wording_46 rfl ?_
      refine g_iload C 4 dX6_wording_47 rfl ?_
      obtain ⟨x3, h, hF⟩ := oB hF
      obtain ⟨hi, h⟩ := gV_some h
      refine g_after (g_runV (n := 1) C dX6_wording_49 rfl hi (mX6_wordsOf C.2.2.2.2.2.2.2.2.2.2.2.1 a0 a4 S _ h) (lw_V q2358 q2360 qs78 q124 q2361) (by decide +kernel) ⟨by rw [hRf]; exact Nat.le_of_ble_eq_true rfl, by rw [hRl]; exact Nat.le_of_ble_eq_true rfl⟩ rfl rfl (gle (gc_i gc_0) (by decide))) ?_
      refine g_iload_n C 2 dX6_wording_52 rfl ?_
      refine g_iand C dX6_wording_53 ?_
      refine g_if_eq C 61 dX6_wording_54 rfl hF (fun c hF => ?_) (fun c hF => ?_)
      · refine g_iconst (v := (0 : Int32)) C dX6_wording_61 rfl ?_
        refine g_iand C dX6_wording_62 ?_
        refine g_istore_n C dX6_wording_63 (by decide) rfl ?_
        refine g_iinc (v := (1 : Int32)) C 4 dX6_wording_64 rfl rfl (by decide) rfl ?_
        refine g_goto C 34 dX6_wording_67 rfl ?_
        exact g_sub [2, 3, 4, 1, 0] rfl (hih a0 a1 a2 (a3 &&& (0 : Int32)) (a4 + (1 : Int32)) S hF)
      · refine g_iconst (v := (1 : Int32)) C dX6_wording_57 rfl ?_
        refine g_goto C 62 dX6_wording_58 rfl ?_
        refine g_iand C dX6_wording_62 ?_
        refine g_istore_n C dX6_wording_63 (by decide) rfl ?_
        refine g_iinc (v := (1 : Int32)) C 4 dX6_wording_64 rfl rfl (by decide) rfl ?_
        refine g_goto C 34 dX6_wording_67 rfl ?_
        exact g_sub [2, 3, 4, 1, 0] rfl (hih a0 a1 a2 (a3 &&& (1 : Int32)) (a4 + (1 : Int32)) S hF)
theorem wfX6_wording_l10 {r : Int32} {S1 : gS} (C : gCx p l R s m args meth c D K RX6 cX6_wording 5 (Option.some Jvm.ClassFile.FieldType.int) [] "wording" u0) (hRf : R.frames = 2) (hRl : R.locals = 123) : ∀ (n : Nat) (a0 : Option Nat) (a1 : Int32) (a2 : Int32) (S : gS), fX6_wording_l10 n a0 a1 a2 S = some (r, S1) → gW p l e R s m args below meth c D K 5 u0 (gEnd below args s D K u0 (.inl (some (.int r))) S1) S 10 [(0, va_rf a0), (1, .int a1), (2, .int a2)] [] := by
  intro n
  induction n with
  | zero => intro a0 a1 a2 S hF; cases hF
  | succ n hih =>
    intro a0 a1 a2 S hF
    have hF : fX6_wording_i10 (fX6_wording_l10 n) a0 a1 a2 S = some (r, S1) := hF
    revert hF hih
    generalize fX6_wording_l10 n = ih
    intro hih hF
    unfold fX6_wording_i10 at hF
    refine g_iload_n C 2 dX6_wording_10 rfl ?_
    refine g_if_lt C 86 dX6_wording_11 rfl hF (fun c hF => ?_) (fun c hF => ?_)
    · refine g_iload_n C 1 dX6_wording_86 rfl ?_
      cases hF
      exact g_iret C dX6_wording_87 rfl rfl
    · refine g_iload_n C 2 dX6_wording_14 rfl ?_
      obtain ⟨x1, h, hF⟩ := oB hF
      refine g_after (g_runS (n := 1) C dX6_wording_15 (mX6_ones C.2.2.2.2.2.2.2.2.2.2.2.1 a2 S _ h) (lw_S q2425 q2426 q124 q2427) (by decide +kernel) ⟨by rw [hRf]; exact Nat.le_of_ble_eq_true rfl, by rw [hRl]; exact Nat.le_of_ble_eq_true rfl⟩ rfl rfl (gle gc_0 (by decide))) ?_
      refine g_iload_n C 1 dX6_wording_18 rfl ?_
      obtain ⟨x2, h, hF⟩ := oB hF
      refine g_after (g_runS (n := 1) C dX6_wording_19 (mX6_ones C.2.2.2.2.2.2.2.2.2.2.2.1 a1 S _ h) (lw_S q2425 q2426 q124 q2427) (by decide +kernel) ⟨by rw [hRf]; exact Nat.le_of_ble_eq_true rfl, by rw [hRl]; exact Nat.le_of_ble_eq_true rfl⟩ rfl rfl (gle (gc_i gc_0) (by decide))) ?_
      refine g_icmp_gt C 29 dX6_wording_22 rfl hF (fun c hF => ?_) (fun c hF => ?_)
      · refine g_iconst (v := (0 : Int32)) C dX6_wording_29 rfl ?_
        refine g_istore_n C dX6_wording_30 (by decide) rfl ?_
        refine g_iconst (v := (0 : Int32)) C dX6_wording_31 rfl ?_
        refine g_istore C dX6_wording_32 (by decide) rfl ?_
        exact g_sub [2, 3, 4, 1, 0] rfl (wfX6_wording_l34 C hRf hRl (ih) (hih) gFU a0 a1 a2 (0 : Int32) (0 : Int32) S hF)
      · refine g_iconst (v := (1 : Int32)) C dX6_wording_25 rfl ?_
        refine g_goto C 30 dX6_wording_26 rfl ?_
        refine g_istore_n C dX6_wording_30 (by decide) rfl ?_
        refine g_iconst (v := (0 : Int32)) C dX6_wording_31 rfl ?_
        refine g_istore C dX6_wording_32 (by decide) rfl ?_
        exact g_sub [2, 3, 4, 1, 0] rfl (wfX6_wording_l34 C hRf hRl (ih) (hih) gFU a0 a1 a2 (1 : Int32) (0 : Int32) S hF)
theorem mX6_wording {l : Launch} {D : gD} {K : gK} (hl : l.stackTraces = false) : ∀ (p0 : Option Nat) (S : gS) (r : Int32) (S1 : gS), fX6_wording p0 S = some (r, S1) → gMet l D K yX6_wording (ws_ yX6_wording cX6_wording 5 (Option.some Jvm.ClassFile.FieldType.int)) 2 123 [va_rf p0] S (.inl (some (.int r))) S1 := by
  intro p0 S r S1 hF
  unfold fX6_wording at hF
  refine gMet.of hl (by decide +kernel) rfl (gle (lgs_r lgs_0) (by decide)) (fun p e s m below meth c R hRf hRl C _ => ?_)
  generalize hargs : ([va_rf p0] : List Value).toArray = args at C ⊢
  generalize hu0 : S.2.2.1 = u0 at C ⊢
  rw [show lv_args 0 [va_rf p0] = [(0, va_rf p0)] from (lva_r rfl lva_0)]
  refine g_aload_n C 0 dX6_wording_0 rfl ?_
  refine g_iconst (v := (0 : Int32)) C dX6_wording_1 rfl ?_
  refine g_put C dX6_wording_2 fd_44 (Or.inl q2028) (Or.inl rfl) pf_0 rfl rfl hF (fun S1 hF => ?_)
  refine g_bipush (v := (63 : Int32)) C dX6_wording_5 rfl ?_
  refine g_istore_n C dX6_wording_7 (by decide) (gcons rfl (gfr rfl gf0)) ?_
  refine g_iload_n C 0 dX6_wording_8 rfl ?_
  refine g_istore_n C dX6_wording_9 (by decide) rfl ?_
  exact g_sub [2, 1, 0] rfl (wfX6_wording_l10 C hRf hRl gFU p0 (63 : Int32) (63 : Int32) S1 hF)
/-! VowelChoirModel.wordings(I)J -/
def fX6_wordings_i36 (ih : (Option Nat) → (Int32) → (Int64) → (Int32) → gS → Option (Int64 × gS)) (a0 : Option Nat) (a1 : Int32) (a2 : Int64) (a4 : Int32) (S : gS) : Option (Int64 × gS) :=
  (oGetR [3] 12 a0 S).bind fun x1 =>
  (oLdI 0 x1 (1 : Int32) S).bind fun x2 =>
  (if x2 ≤ a4 then
  some (a2, S)
  else
  (gV [3] a0 S (fX6_wordsOf a0 a4 S)).bind fun x3 =>
  (fX6_ones (x3 &&& a1) S).bind fun x4 =>
  ih a0 a1 (a2 * x4.toInt64) (a4 + (1 : Int32)) S)
def fX6_wordings_l36 : Nat → (Option Nat) → (Int32) → (Int64) → (Int32) → gS → Option (Int64 × gS)
  | 0 => fun _ _ _ _ _ => none
  | n + 1 => fun a0 a1 a2 a4 S => fX6_wordings_i36 (fX6_wordings_l36 n) a0 a1 a2 a4 S
def fX6_wordings_j21 (a0 : Option Nat) (a1 : Int32) (t0 : Int32) (t1 : Option Nat) (S : gS) : Option (Int64 × gS) :=
  gB (gV [3] t1 S (fX6_bad t1 t0 (1 : Int32) (1 : Int32) S)) fun x1 S2 =>
  (if x1 = 0 then
  fX6_wordings_l36 gFU a0 a1 (1 : Int64) (0 : Int32) S2
  else
  some ((0 : Int64), S2))
def fX6_wordings (p0 : Option Nat) (p1 : Int32) (S : gS) : Option (Int64 × gS) :=
  (oPut [3] 0 p0 (.int ((0 : Int32))) S).bind fun S1 =>
  (if (fX6_in p1 (0 : Int32) (63 : Int32)) = 0 then
  fX6_wordings_j21 p0 p1 (1 : Int32) p0 S1
  else
  fX6_wordings_j21 p0 p1 (0 : Int32) p0 S1)
theorem wfX6_wordings_l36 {r : Int64} {S1 : gS} (C : gCx p l R s m args meth c D K RX6 cX6_wordings 5 (Option.some Jvm.ClassFile.FieldType.long) [] "wordings" u0) (hRf : R.frames = 2) (hRl : R.locals = 123) : ∀ (n : Nat) (a0 : Option Nat) (a1 : Int32) (a2 : Int64) (a4 : Int32) (S : gS), fX6_wordings_l36 n a0 a1 a2 a4 S = some (r, S1) → gW p l e R s m args below meth c D K 5 u0 (gEnd below args s D K u0 (.inl (some (.long r))) S1) S 36 [(0, va_rf a0), (1, .int a1), (2, .long a2), (4, .int a4)] [] := by
  intro n
  induction n with
  | zero => intro a0 a1 a2 a4 S hF; cases hF
  | succ n hih =>
    intro a0 a1 a2 a4 S hF
    have hF : fX6_wordings_i36 (fX6_wordings_l36 n) a0 a1 a2 a4 S = some (r, S1) := hF
    revert hF hih
    generalize fX6_wordings_l36 n = ih
    intro hih hF
    unfold fX6_wordings_i36 at hF
    refine g_iload C 3 dX6_wordings_36 rfl ?_
    refine g_aload_n C 0 dX6_wordings_38 rfl ?_
    refine g_getR C dX6_wordings_39 fd_15 (Or.inl q2040) (Or.inl rfl) hF (fun x1 hF => ?_)
    refine g_iconst (v := (1 : Int32)) C dX6_wordings_42 rfl ?_
    refine g_iald C dX6_wordings_43 hF (fun x2 hF => ?_)
    refine g_icmp_ge C 68 dX6_wordings_44 rfl hF (fun c hF => ?_) (fun c hF => ?_)
    · refine g_lload_n C 2 dX6_wordings_68 rfl ?_
      cases hF
      exact g_lret C dX6_wordings_69 rfl rfl
    · refine g_lload_n C 2 dX6_wordings_47 rfl ?_
      refine g_aload_n C 0 dX6_wordings_48 rfl ?_
      refine g_iload C 3 dX6_wordings_49 rfl ?_
      obtain ⟨x3, h, hF⟩ := oB hF
      obtain ⟨hi, h⟩ := gV_some h
      refine g_after (g_runV (n := 1) C dX6_wordings_51 rfl hi (mX6_wordsOf C.2.2.2.2.2.2.2.2.2.2.2.1 a0 a4 S _ h) (lw_V q2358 q2360 qs78 q124 q2361) (by decide +kernel) ⟨by rw [hRf]; exact Nat.le_of_ble_eq_true rfl, by rw [hRl]; exact Nat.le_of_ble_eq_true rfl⟩ rfl rfl (gle (gc_j gc_0) (by decide))) ?_
      refine g_iload_n C 1 dX6_wordings_54 rfl ?_
      refine g_iand C dX6_wordings_55 ?_
      obtain ⟨x4, h, hF⟩ := oB hF
      refine g_after (g_runS (n := 1) C dX6_wordings_56 (mX6_ones C.2.2.2.2.2.2.2.2.2.2.2.1 (x3 &&& a1) S _ h) (lw_S q2425 q2426 q124 q2427) (by decide +kernel) ⟨by rw [hRf]; exact Nat.le_of_ble_eq_true rfl, by rw [hRl]; exact Nat.le_of_ble_eq_true rfl⟩ rfl rfl (gle (gc_j gc_0) (by decide))) ?_
      refine g_i2l C dX6_wordings_59 ?_
      refine g_lmul C dX6_wordings_60 ?_
      refine g_lstore_n C dX6_wordings_61 (by decide) rfl ?_
      refine g_iinc (v := (1 : Int32)) C 3 dX6_wordings_62 rfl rfl (by decide) rfl ?_
      refine g_goto C 36 dX6_wordings_65 rfl ?_
      exact g_sub [2, 3, 1, 0] rfl (hih a0 a1 (a2 * x4.toInt64) (a4 + (1 : Int32)) S hF)
theorem wfX6_wordings_j21 {r : Int64} {S1 : gS} (C : gCx p l R s m args meth c D K RX6 cX6_wordings 5 (Option.some Jvm.ClassFile.FieldType.long) [] "wordings" u0) (hRf : R.frames = 2) (hRl : R.locals = 123) : ∀ (a0 : Option Nat) (a1 : Int32) (t0 : Int32) (t1 : Option Nat) (S : gS), fX6_wordings_j21 a0 a1 t0 t1 S = some (r, S1) → gW p l e R s m args below meth c D K 5 u0 (gEnd below args s D K u0 (.inl (some (.long r))) S1) S 21 [(0, va_rf a0), (1, .int a1)] [.int t0, va_rf t1] := by
  intro a0 a1 t0 t1 S hF
  unfold fX6_wordings_j21 at hF
  refine g_iconst (v := (1 : Int32)) C dX6_wordings_21 rfl ?_
  refine g_iconst (v := (1 : Int32)) C dX6_wordings_22 rfl ?_
  obtain ⟨x1, S2, h, hF⟩ := gB_some hF
  obtain ⟨hi, h⟩ := gV_some h
  refine g_after (g_runV (n := 3) C dX6_wordings_23 rfl hi (mX6_bad C.2.2.2.2.2.2.2.2.2.2.2.1 t1 t0 (1 : Int32) (1 : Int32) S _ _ h) (lw_V q2183 q2185 qs46 q124 q2186) (by decide +kernel) ⟨by rw [hRf]; exact Nat.le_of_ble_eq_true rfl, by rw [hRl]; exact Nat.le_of_ble_eq_true rfl⟩ rfl rfl (gle gc_0 (by decide))) ?_
  refine g_if_eq C 31 dX6_wordings_26 rfl hF (fun c hF => ?_) (fun c hF => ?_)
  · refine g_lconst (v := (1 : Int64)) C dX6_wordings_31 rfl ?_
    refine g_lstore_n C dX6_wordings_32 (by decide) rfl ?_
    refine g_iconst (v := (0 : Int32)) C dX6_wordings_33 rfl ?_
    refine g_istore C dX6_wordings_34 (by decide) rfl ?_
    exact g_sub [2, 3, 1, 0] rfl (wfX6_wordings_l36 C hRf hRl gFU a0 a1 (1 : Int64) (0 : Int32) S2 hF)
  · refine g_lconst (v := (0 : Int64)) C dX6_wordings_29 rfl ?_
    cases hF
    exact g_lret C dX6_wordings_30 rfl rfl
theorem mX6_wordings {l : Launch} {D : gD} {K : gK} (hl : l.stackTraces = false) : ∀ (p0 : Option Nat) (p1 : Int32) (S : gS) (r : Int64) (S1 : gS), fX6_wordings p0 p1 S = some (r, S1) → gMet l D K yX6_wordings (ws_ yX6_wordings cX6_wordings 5 (Option.some Jvm.ClassFile.FieldType.long)) 2 123 [va_rf p0, .int p1] S (.inl (some (.long r))) S1 := by
  intro p0 p1 S r S1 hF
  unfold fX6_wordings at hF
  refine gMet.of hl (by decide +kernel) rfl (gle (lgs_r (lgs_i lgs_0)) (by decide)) (fun p e s m below meth c R hRf hRl C _ => ?_)
  generalize hargs : ([va_rf p0, .int p1] : List Value).toArray = args at C ⊢
  generalize hu0 : S.2.2.1 = u0 at C ⊢
  rw [show lv_args 0 [va_rf p0, .int p1] = [(0, va_rf p0), (1, .int p1)] from (lva_r rfl (lva_i rfl lva_0))]
  refine g_aload_n C 0 dX6_wordings_0 rfl ?_
  refine g_iconst (v := (0 : Int32)) C dX6_wordings_1 rfl ?_
  refine g_put C dX6_wordings_2 fd_44 (Or.inl q2028) (Or.inl rfl) pf_0 rfl rfl hF (fun S1 hF => ?_)
  refine g_aload_n C 0 dX6_wordings_5 rfl ?_
  refine g_iload_n C 1 dX6_wordings_6 rfl ?_
  refine g_iconst (v := (0 : Int32)) C dX6_wordings_7 rfl ?_
  refine g_bipush (v := (63 : Int32)) C dX6_wordings_8 rfl ?_
  refine g_after (g_runS (n := 3) C dX6_wordings_10 (mX6_in C.2.2.2.2.2.2.2.2.2.2.2.1 p1 (0 : Int32) (63 : Int32) S1 _ rfl) (lw_S q2180 q2181 q124 q2182) (by decide +kernel) ⟨by rw [hRf]; exact Nat.le_of_ble_eq_true rfl, by rw [hRl]; exact Nat.le_of_ble_eq_true rfl⟩ rfl rfl (gle (gc_r gc_0) (by decide))) ?_
  refine g_if_ne C 20 dX6_wordings_13 rfl hF (fun c hF => ?_) (fun c hF => ?_)
  · refine g_iconst (v := (0 : Int32)) C dX6_wordings_20 rfl ?_
    exact g_sub [0, 1] rfl (wfX6_wordings_j21 C hRf hRl p0 p1 (0 : Int32) p0 S1 hF)
  · refine g_iconst (v := (1 : Int32)) C dX6_wordings_16 rfl ?_
    refine g_goto C 21 dX6_wordings_17 rfl ?_
    exact g_sub [0, 1] rfl (wfX6_wordings_j21 C hRf hRl p0 p1 (1 : Int32) p0 S1 hF)
/-! VowelChoirModel.isHeard(I)Z -/
def fX6_isHeard_i33 (ih : (Option Nat) → (Int32) → gS → Option (Int32 × gS)) (a0 : Option Nat) (a2 : Int32) (S : gS) : Option (Int32 × gS) :=
  (oGetI [3] 33 a0 S).bind fun x1 =>
  (if x1 ≤ a2 then
  some ((1 : Int32), S)
  else
  (oGetI [3] 38 a0 S).bind fun x2 =>
  (oGetR [3] 23 a0 S).bind fun x3 =>
  (oLdR 5 x3 a2 S).bind fun x4 =>
  (oLdI 0 x4 (0 : Int32) S).bind fun x5 =>
  (oGetR [3] 23 a0 S).bind fun x6 =>
  (oLdR 5 x6 a2 S).bind fun x7 =>
  (oLdI 0 x7 (1 : Int32) S).bind fun x8 =>
  (if ((x2 >>> (x5 &&& 31)) &&& (1 : Int32)) = x8 then
  ih a0 (a2 + (1 : Int32)) S
  else
  some ((0 : Int32), S)))
def fX6_isHeard_l33 : Nat → (Option Nat) → (Int32) → gS → Option (Int32 × gS)
  | 0 => fun _ _ _ => none
  | n + 1 => fun a0 a2 S => fX6_isHeard_i33 (fX6_isHeard_l33 n) a0 a2 S
def fX6_isHeard (p0 : Option Nat) (p1 : Int32) (S : gS) : Option (Int32 × gS) :=
  (oGetR [3] 29 p0 S).bind fun x1 =>
  (oGetR [3] 30 p0 S).bind fun x2 =>
  gB (fX6_copies x1 x2 S) fun x3 S4 =>
  (gV [3] p0 S4 (fX6_everySinger p0 S4)).bind fun x5 =>
  gB (gV [3] p0 S4 (fX6_onlyThese p0 (x5 &&& (p1 ^^^ (-1 : Int32))) S4)) fun x6 S7 =>
  (oGetR [3] 30 p0 S7).bind fun x8 =>
  gB (gV [3] p0 S7 (fX6_hymns p0 x8 S7)) fun x9 S10 =>
  fX6_isHeard_l33 gFU p0 (0 : Int32) S10
theorem wfX6_isHeard_l33 {r : Int32} {S1 : gS} (C : gCx p l R s m args meth c D K RX6 cX6_isHeard 3 (Option.some Jvm.ClassFile.FieldType.boolean) [] "isHeard" u0) (hRf : R.frames = 9) (hRl : R.locals = 285) : ∀ (n : Nat) (a0 : Option Nat) (a2 : Int32) (S : gS), fX6_isHeard_l33 n a0 a2 S = some (r, S1) → gW p l e R s m args below meth c D K 3 u0 (gEnd below args s D K u0 (.inl (some (.int r))) S1) S 33 [(0, va_rf a0), (2, .int a2)] [] := by
  intro n
  induction n with
  | zero => intro a0 a2 S hF; cases hF
  | succ n hih =>
    intro a0 a2 S hF
    have hF : fX6_isHeard_i33 (fX6_isHeard_l33 n) a0 a2 S = some (r, S1) := hF
    revert hF hih
    generalize fX6_isHeard_l33 n = ih
    intro hih hF
    unfold fX6_isHeard_i33 at hF
    refine g_iload_n C 1 dX6_isHeard_33 rfl ?_
    refine g_aload_n C 0 dX6_isHeard_34 rfl ?_
    refine g_getI C dX6_isHeard_35 fd_24 (Or.inl q2061) (Or.inl rfl) hF (fun x1 hF => ?_)
    refine g_icmp_ge C 75 dX6_isHeard_38 rfl hF (fun c hF => ?_) (fun c hF => ?_)
    · refine g_iconst (v := (1 : Int32)) C dX6_isHeard_75 rfl ?_
      cases hF
      exact g_zret (ty := .boolean) C (rfl) dX6_isHeard_76 rfl rfl
    · refine g_aload_n C 0 dX6_isHeard_41 rfl ?_
      refine g_getI C dX6_isHeard_42 fd_54 (Or.inl q2066) (Or.inl rfl) hF (fun x2 hF => ?_)
      refine g_aload_n C 0 dX6_isHeard_45 rfl ?_
      refine g_getR C dX6_isHeard_46 fd_33 (Or.inl q2051) (Or.inl rfl) hF (fun x3 hF => ?_)
      refine g_iload_n C 1 dX6_isHeard_49 rfl ?_
      refine g_aald C (kd := 5) rfl dX6_isHeard_50 hF (fun x4 hF => ?_)
      refine g_iconst (v := (0 : Int32)) C dX6_isHeard_51 rfl ?_
      refine g_iald C dX6_isHeard_52 hF (fun x5 hF => ?_)
      refine g_ishr C dX6_isHeard_53 ?_
      refine g_iconst (v := (1 : Int32)) C dX6_isHeard_54 rfl ?_
      refine g_iand C dX6_isHeard_55 ?_
      refine g_aload_n C 0 dX6_isHeard_56 rfl ?_
      refine g_getR C dX6_isHeard_57 fd_33 (Or.inl q2051) (Or.inl rfl) hF (fun x6 hF => ?_)
      refine g_iload_n C 1 dX6_isHeard_60 rfl ?_
      refine g_aald C (kd := 5) rfl dX6_isHeard_61 hF (fun x7 hF => ?_)
      refine g_iconst (v := (1 : Int32)) C dX6_isHeard_62 rfl ?_
      refine g_iald C dX6_isHeard_63 hF (fun x8 hF => ?_)
      refine g_icmp_eq C 69 dX6_isHeard_64 rfl hF (fun c hF => ?_) (fun c hF => ?_)
      · refine g_iinc (v := (1 : Int32)) C 1 dX6_isHeard_69 rfl rfl (by decide) rfl ?_
        refine g_goto C 33 dX6_isHeard_72 rfl ?_
        exact g_sub [1, 0] rfl (hih a0 (a2 + (1 : Int32)) S hF)
      · refine g_iconst (v := (0 : Int32)) C dX6_isHeard_67 rfl ?_
        cases hF
        exact g_zret (ty := .boolean) C (rfl) dX6_isHeard_68 rfl rfl
theorem mX6_isHeard {l : Launch} {D : gD} {K : gK} (hl : l.stackTraces = false) : ∀ (p0 : Option Nat) (p1 : Int32) (S : gS) (r : Int32) (S1 : gS), fX6_isHeard p0 p1 S = some (r, S1) → gMet l D K yX6_isHeard (ws_ yX6_isHeard cX6_isHeard 3 (Option.some Jvm.ClassFile.FieldType.boolean)) 9 285 [va_rf p0, .int p1] S (.inl (some (.int r))) S1 := by
  intro p0 p1 S r S1 hF
  unfold fX6_isHeard at hF
  refine gMet.of hl (by decide +kernel) rfl (gle (lgs_r (lgs_i lgs_0)) (by decide)) (fun p e s m below meth c R hRf hRl C _ => ?_)
  generalize hargs : ([va_rf p0, .int p1] : List Value).toArray = args at C ⊢
  generalize hu0 : S.2.2.1 = u0 at C ⊢
  rw [show lv_args 0 [va_rf p0, .int p1] = [(0, va_rf p0), (1, .int p1)] from (lva_r rfl (lva_i rfl lva_0))]
  refine g_aload_n C 0 dX6_isHeard_0 rfl ?_
  refine g_getR C dX6_isHeard_1 fd_22 (Or.inl q2057) (Or.inl rfl) hF (fun x1 hF => ?_)
  refine g_aload_n C 0 dX6_isHeard_4 rfl ?_
  refine g_getR C dX6_isHeard_5 fd_38 (Or.inl q2058) (Or.inl rfl) hF (fun x2 hF => ?_)
  obtain ⟨x3, S4, h, hF⟩ := gB_some hF
  refine g_after (g_runS (n := 2) C dX6_isHeard_8 (mX6_copies C.2.2.2.2.2.2.2.2.2.2.2.1 x1 x2 S _ _ h) (lw_S q2307 q2308 q124 q2309) (by decide +kernel) ⟨by rw [hRf]; exact Nat.le_of_ble_eq_true rfl, by rw [hRl]; exact Nat.le_of_ble_eq_true rfl⟩ rfl rfl (gle gc_0 (by decide))) ?_
  refine g_aload_n C 0 dX6_isHeard_11 rfl ?_
  refine g_aload_n C 0 dX6_isHeard_12 rfl ?_
  obtain ⟨x5, h, hF⟩ := oB hF
  obtain ⟨hi, h⟩ := gV_some h
  refine g_after (g_runV (n := 0) C dX6_isHeard_13 rfl hi (mX6_everySinger C.2.2.2.2.2.2.2.2.2.2.2.1 p0 S4 _ h) (lw_V q2421 q2423 qs84 q124 q2424) (by decide +kernel) ⟨by rw [hRf]; exact Nat.le_of_ble_eq_true rfl, by rw [hRl]; exact Nat.le_of_ble_eq_true rfl⟩ rfl rfl (gle (gc_r gc_0) (by decide))) ?_
  refine g_iload_n C 1 dX6_isHeard_16 rfl ?_
  refine g_iconst (v := (-1 : Int32)) C dX6_isHeard_17 rfl ?_
  refine g_ixor C dX6_isHeard_18 ?_
  refine g_iand C dX6_isHeard_19 ?_
  obtain ⟨x6, S7, h, hF⟩ := gB_some hF
  obtain ⟨hi, h⟩ := gV_some h
  refine g_after (g_runV (n := 1) C dX6_isHeard_20 rfl hi (mX6_onlyThese C.2.2.2.2.2.2.2.2.2.2.2.1 p0 (x5 &&& (p1 ^^^ (-1 : Int32))) S4 _ _ h) (lw_V q2432 q2434 qs86 q124 q2435) (by decide +kernel) ⟨by rw [hRf]; exact Nat.le_of_ble_eq_true rfl, by rw [hRl]; exact Nat.le_of_ble_eq_true rfl⟩ rfl rfl (gle gc_0 (by decide))) ?_
  refine g_aload_n C 0 dX6_isHeard_23 rfl ?_
  refine g_aload_n C 0 dX6_isHeard_24 rfl ?_
  refine g_getR C dX6_isHeard_25 fd_38 (Or.inl q2058) (Or.inl rfl) hF (fun x8 hF => ?_)
  obtain ⟨x9, S10, h, hF⟩ := gB_some hF
  obtain ⟨hi, h⟩ := gV_some h
  refine g_after (g_runV (n := 1) C dX6_isHeard_28 rfl hi (mX6_hymns C.2.2.2.2.2.2.2.2.2.2.2.1 p0 x8 S7 _ _ h) (lw_V q2347 q2349 qs76 q124 q2350) (by decide +kernel) ⟨by rw [hRf]; exact Nat.le_of_ble_eq_true rfl, by rw [hRl]; exact Nat.le_of_ble_eq_true rfl⟩ rfl rfl (gle gc_0 (by decide))) ?_
  refine g_iconst (v := (0 : Int32)) C dX6_isHeard_31 rfl ?_
  refine g_istore_n C dX6_isHeard_32 (by decide) rfl ?_
  exact g_sub [1, 0] rfl (wfX6_isHeard_l33 C hRf hRl gFU p0 (0 : Int32) S10 hF)
/-! VowelChoirModel.who(I)I -/
def fX6_who_i37 (ih : (Option Nat) → (Int32) → (Int32) → (Int32) → (Int32) → gS → Option (Int32 × gS)) (a0 : Option Nat) (a1 : Int32) (a2 : Int32) (a3 : Int32) (a4 : Int32) (S : gS) : Option (Int32 × gS) :=
  (gV [3] a0 S (fX6_everySinger a0 S)).bind fun x1 =>
  (if x1 < a4 then
  (if a1 = 0 then
  some (a2, S)
  else
  some (a3, S))
  else
  gB (gV [3] a0 S (fX6_isHeard a0 a4 S)) fun x2 S3 =>
  (if x2 = 0 then
  ih a0 a1 a2 a3 (a4 + (1 : Int32)) S3
  else
  (if a3 = (-1 : Int32) then
  ih a0 a1 (a2 + (1 : Int32)) a4 (a4 + (1 : Int32)) S3
  else
  (fX6_ones a4 S3).bind fun x4 =>
  (fX6_ones a3 S3).bind fun x5 =>
  (if x5 ≤ x4 then
  ih a0 a1 (a2 + (1 : Int32)) a3 (a4 + (1 : Int32)) S3
  else
  ih a0 a1 (a2 + (1 : Int32)) a4 (a4 + (1 : Int32)) S3))))
def fX6_who_l37 : Nat → (Option Nat) → (Int32) → (Int32) → (Int32) → (Int32) → gS → Option (Int32 × gS)
  | 0 => fun _ _ _ _ _ _ => none
  | n + 1 => fun a0 a1 a2 a3 a4 S => fX6_who_i37 (fX6_who_l37 n) a0 a1 a2 a3 a4 S
def fX6_who_j20 (a0 : Option Nat) (a1 : Int32) (t0 : Int32) (t1 : Option Nat) (S : gS) : Option (Int32 × gS) :=
  gB (gV [3] t1 S (fX6_bad t1 t0 (1 : Int32) (1 : Int32) S)) fun x1 S2 =>
  (if x1 = 0 then
  fX6_who_l37 gFU a0 a1 (0 : Int32) (-1 : Int32) (0 : Int32) S2
  else
  some ((0 : Int32), S2))
def fX6_who (p0 : Option Nat) (p1 : Int32) (S : gS) : Option (Int32 × gS) :=
  (oPut [3] 0 p0 (.int ((0 : Int32))) S).bind fun S1 =>
  (if (fX6_in p1 (0 : Int32) (1 : Int32)) = 0 then
  fX6_who_j20 p0 p1 (1 : Int32) p0 S1
  else
  fX6_who_j20 p0 p1 (0 : Int32) p0 S1)
theorem wfX6_who_l37 {r : Int32} {S1 : gS} (C : gCx p l R s m args meth c D K RX6 cX6_who 5 (Option.some Jvm.ClassFile.FieldType.int) [] "who" u0) (hRf : R.frames = 10) (hRl : R.locals = 307) : ∀ (n : Nat) (a0 : Option Nat) (a1 : Int32) (a2 : Int32) (a3 : Int32) (a4 : Int32) (S : gS), fX6_who_l37 n a0 a1 a2 a3 a4 S = some (r, S1) → gW p l e R s m args below meth c D K 5 u0 (gEnd below args s D K u0 (.inl (some (.int r))) S1) S 37 [(0, va_rf a0), (1, .int a1), (2, .int a2), (3, .int a3), (4, .int a4)] [] := by
  intro n
  induction n with
  | zero => intro a0 a1 a2 a3 a4 S hF; cases hF
  | succ n hih =>
    intro a0 a1 a2 a3 a4 S hF
    have hF : fX6_who_i37 (fX6_who_l37 n) a0 a1 a2 a3 a4 S = some (r, S1) := hF
    revert hF hih
    generalize fX6_who_l37 n = ih
    intro hih hF
    unfold fX6_who_i37 at hF
    refine g_iload C 4 dX6_who_37 rfl ?_
    refine g_aload_n C 0 dX6_who_39 rfl ?_
    obtain ⟨x1, h, hF⟩ := oB hF
    obtain ⟨hi, h⟩ := gV_some h
    refine g_after (g_runV (n := 0) C dX6_who_40 rfl hi (mX6_everySinger C.2.2.2.2.2.2.2.2.2.2.2.1 a0 S _ h) (lw_V q2421 q2423 qs84 q124 q2424) (by decide +kernel) ⟨by rw [hRf]; exact Nat.le_of_ble_eq_true rfl, by rw [hRl]; exact Nat.le_of_ble_eq_true rfl⟩ rfl rfl (gle (gc_i gc_0) (by decide))) ?_
    refine g_icmp_gt C 91 dX6_who_43 rfl hF (fun c hF => ?_) (fun c hF => ?_)
    · refine g_iload_n C 1 dX6_who_91 rfl ?_
      refine g_if_ne C 99 dX6_who_92 rfl hF (fun c hF => ?_) (fun c hF => ?_)
      · refine g_iload_n C 3 dX6_who_99 rfl ?_
        cases hF
        exact g_iret C dX6_who_100 rfl rfl
      · refine g_iload_n C 2 dX6_who_95 rfl ?_
        refine g_goto C 100 dX6_who_96 rfl ?_
        cases hF
        exact g_iret C dX6_who_100 rfl rfl
    · refine g_aload_n C 0 dX6_who_46 rfl ?_
      refine g_iload C 4 dX6_who_47 rfl ?_
      obtain ⟨x2, S3, h, hF⟩ := gB_some hF
      obtain ⟨hi, h⟩ := gV_some h
      refine g_after (g_runV (n := 1) C dX6_who_49 rfl hi (mX6_isHeard C.2.2.2.2.2.2.2.2.2.2.2.1 a0 a4 S _ _ h) (lw_V q2472 q2474 qs90 q124 q2475) (by decide +kernel) ⟨by rw [hRf]; exact Nat.le_of_ble_eq_true rfl, by rw [hRl]; exact Nat.le_of_ble_eq_true rfl⟩ rfl rfl (gle gc_0 (by decide))) ?_
      refine g_if_ne C 58 dX6_who_52 rfl hF (fun c hF => ?_) (fun c hF => ?_)
      · refine g_iinc (v := (1 : Int32)) C 2 dX6_who_58 rfl rfl (by decide) rfl ?_
        refine g_iload_n C 3 dX6_who_61 rfl ?_
        refine g_iconst (v := (-1 : Int32)) C dX6_who_62 rfl ?_
        refine g_icmp_eq C 78 dX6_who_63 rfl hF (fun c hF => ?_) (fun c hF => ?_)
        · refine g_iload C 4 dX6_who_78 rfl ?_
          refine g_goto C 84 dX6_who_80 rfl ?_
          refine g_istore_n C dX6_who_84 (by decide) rfl ?_
          refine g_iinc (v := (1 : Int32)) C 4 dX6_who_85 rfl rfl (by decide) rfl ?_
          refine g_goto C 37 dX6_who_88 rfl ?_
          exact g_sub [3, 4, 2, 1, 0] rfl (hih a0 a1 (a2 + (1 : Int32)) a4 (a4 + (1 : Int32)) S3 hF)
        · refine g_iload C 4 dX6_who_66 rfl ?_
          obtain ⟨x4, h, hF⟩ := oB hF
          refine g_after (g_runS (n := 1) C dX6_who_68 (mX6_ones C.2.2.2.2.2.2.2.2.2.2.2.1 a4 S3 _ h) (lw_S q2425 q2426 q124 q2427) (by decide +kernel) ⟨by rw [hRf]; exact Nat.le_of_ble_eq_true rfl, by rw [hRl]; exact Nat.le_of_ble_eq_true rfl⟩ rfl rfl (gle gc_0 (by decide))) ?_
          refine g_iload_n C 3 dX6_who_71 rfl ?_
          obtain ⟨x5, h, hF⟩ := oB hF
          refine g_after (g_runS (n := 1) C dX6_who_72 (mX6_ones C.2.2.2.2.2.2.2.2.2.2.2.1 a3 S3 _ h) (lw_S q2425 q2426 q124 q2427) (by decide +kernel) ⟨by rw [hRf]; exact Nat.le_of_ble_eq_true rfl, by rw [hRl]; exact Nat.le_of_ble_eq_true rfl⟩ rfl rfl (gle (gc_i gc_0) (by decide))) ?_
          refine g_icmp_ge C 83 dX6_who_75 rfl hF (fun c hF => ?_) (fun c hF => ?_)
          · refine g_iload_n C 3 dX6_who_83 rfl ?_
            refine g_istore_n C dX6_who_84 (by decide) rfl ?_
            refine g_iinc (v := (1 : Int32)) C 4 dX6_who_85 rfl rfl (by decide) rfl ?_
            refine g_goto C 37 dX6_who_88 rfl ?_
            exact g_sub [3, 4, 2, 1, 0] rfl (hih a0 a1 (a2 + (1 : Int32)) a3 (a4 + (1 : Int32)) S3 hF)
          · refine g_iload C 4 dX6_who_78 rfl ?_
            refine g_goto C 84 dX6_who_80 rfl ?_
            refine g_istore_n C dX6_who_84 (by decide) rfl ?_
            refine g_iinc (v := (1 : Int32)) C 4 dX6_who_85 rfl rfl (by decide) rfl ?_
            refine g_goto C 37 dX6_who_88 rfl ?_
            exact g_sub [3, 4, 2, 1, 0] rfl (hih a0 a1 (a2 + (1 : Int32)) a4 (a4 + (1 : Int32)) S3 hF)
      · refine g_goto C 85 dX6_who_55 rfl ?_
        refine g_iinc (v := (1 : Int32)) C 4 dX6_who_85 rfl rfl (by decide) rfl ?_
        refine g_goto C 37 dX6_who_88 rfl ?_
        exact g_sub [1, 2, 3, 4, 0] rfl (hih a0 a1 a2 a3 (a4 + (1 : Int32)) S3 hF)
theorem wfX6_who_j20 {r : Int32} {S1 : gS} (C : gCx p l R s m args meth c D K RX6 cX6_who 5 (Option.some Jvm.ClassFile.FieldType.int) [] "who" u0) (hRf : R.frames = 10) (hRl : R.locals = 307) : ∀ (a0 : Option Nat) (a1 : Int32) (t0 : Int32) (t1 : Option Nat) (S : gS), fX6_who_j20 a0 a1 t0 t1 S = some (r, S1) → gW p l e R s m args below meth c D K 5 u0 (gEnd below args s D K u0 (.inl (some (.int r))) S1) S 20 [(0, va_rf a0), (1, .int a1)] [.int t0, va_rf t1] := by
  intro a0 a1 t0 t1 S hF
  unfold fX6_who_j20 at hF
  refine g_iconst (v := (1 : Int32)) C dX6_who_20 rfl ?_
  refine g_iconst (v := (1 : Int32)) C dX6_who_21 rfl ?_
  obtain ⟨x1, S2, h, hF⟩ := gB_some hF
  obtain ⟨hi, h⟩ := gV_some h
  refine g_after (g_runV (n := 3) C dX6_who_22 rfl hi (mX6_bad C.2.2.2.2.2.2.2.2.2.2.2.1 t1 t0 (1 : Int32) (1 : Int32) S _ _ h) (lw_V q2183 q2185 qs46 q124 q2186) (by decide +kernel) ⟨by rw [hRf]; exact Nat.le_of_ble_eq_true rfl, by rw [hRl]; exact Nat.le_of_ble_eq_true rfl⟩ rfl rfl (gle gc_0 (by decide))) ?_
  refine g_if_eq C 30 dX6_who_25 rfl hF (fun c hF => ?_) (fun c hF => ?_)
  · refine g_iconst (v := (0 : Int32)) C dX6_who_30 rfl ?_
    refine g_istore_n C dX6_who_31 (by decide) rfl ?_
    refine g_iconst (v := (-1 : Int32)) C dX6_who_32 rfl ?_
    refine g_istore_n C dX6_who_33 (by decide) rfl ?_
    refine g_iconst (v := (0 : Int32)) C dX6_who_34 rfl ?_
    refine g_istore C dX6_who_35 (by decide) rfl ?_
    exact g_sub [3, 4, 2, 1, 0] rfl (wfX6_who_l37 C hRf hRl gFU a0 a1 (0 : Int32) (-1 : Int32) (0 : Int32) S2 hF)
  · refine g_iconst (v := (0 : Int32)) C dX6_who_28 rfl ?_
    cases hF
    exact g_iret C dX6_who_29 rfl rfl
theorem mX6_who {l : Launch} {D : gD} {K : gK} (hl : l.stackTraces = false) : ∀ (p0 : Option Nat) (p1 : Int32) (S : gS) (r : Int32) (S1 : gS), fX6_who p0 p1 S = some (r, S1) → gMet l D K yX6_who (ws_ yX6_who cX6_who 5 (Option.some Jvm.ClassFile.FieldType.int)) 10 307 [va_rf p0, .int p1] S (.inl (some (.int r))) S1 := by
  intro p0 p1 S r S1 hF
  unfold fX6_who at hF
  refine gMet.of hl (by decide +kernel) rfl (gle (lgs_r (lgs_i lgs_0)) (by decide)) (fun p e s m below meth c R hRf hRl C _ => ?_)
  generalize hargs : ([va_rf p0, .int p1] : List Value).toArray = args at C ⊢
  generalize hu0 : S.2.2.1 = u0 at C ⊢
  rw [show lv_args 0 [va_rf p0, .int p1] = [(0, va_rf p0), (1, .int p1)] from (lva_r rfl (lva_i rfl lva_0))]
  refine g_aload_n C 0 dX6_who_0 rfl ?_
  refine g_iconst (v := (0 : Int32)) C dX6_who_1 rfl ?_
  refine g_put C dX6_who_2 fd_44 (Or.inl q2028) (Or.inl rfl) pf_0 rfl rfl hF (fun S1 hF => ?_)
  refine g_aload_n C 0 dX6_who_5 rfl ?_
  refine g_iload_n C 1 dX6_who_6 rfl ?_
  refine g_iconst (v := (0 : Int32)) C dX6_who_7 rfl ?_
  refine g_iconst (v := (1 : Int32)) C dX6_who_8 rfl ?_
  refine g_after (g_runS (n := 3) C dX6_who_9 (mX6_in C.2.2.2.2.2.2.2.2.2.2.2.1 p1 (0 : Int32) (1 : Int32) S1 _ rfl) (lw_S q2180 q2181 q124 q2182) (by decide +kernel) ⟨by rw [hRf]; exact Nat.le_of_ble_eq_true rfl, by rw [hRl]; exact Nat.le_of_ble_eq_true rfl⟩ rfl rfl (gle (gc_r gc_0) (by decide))) ?_
  refine g_if_ne C 19 dX6_who_12 rfl hF (fun c hF => ?_) (fun c hF => ?_)
  · refine g_iconst (v := (0 : Int32)) C dX6_who_19 rfl ?_
    exact g_sub [0, 1] rfl (wfX6_who_j20 C hRf hRl p0 p1 (0 : Int32) p0 S1 hF)
  · refine g_iconst (v := (1 : Int32)) C dX6_who_15 rfl ?_
    refine g_goto C 20 dX6_who_16 rfl ?_
    exact g_sub [0, 1] rfl (wfX6_who_j20 C hRf hRl p0 p1 (1 : Int32) p0 S1 hF)
/-! VowelChoirModel.isTold(I)Z -/
def fX6_isTold_i2 (ih : (Option Nat) → (Int32) → (Int32) → gS → Option Int32) (a0 : Option Nat) (a1 : Int32) (a2 : Int32) (S : gS) : Option Int32 :=
  (oGetI [3] 33 a0 S).bind fun x1 =>
  (if x1 ≤ a2 then
  some (0 : Int32)
  else
  (oGetR [3] 23 a0 S).bind fun x2 =>
  (oLdR 5 x2 a2 S).bind fun x3 =>
  (oLdI 0 x3 (0 : Int32) S).bind fun x4 =>
  (if x4 = a1 then
  some (1 : Int32)
  else
  ih a0 a1 (a2 + (1 : Int32)) S))
def fX6_isTold_l2 : Nat → (Option Nat) → (Int32) → (Int32) → gS → Option Int32
  | 0 => fun _ _ _ _ => none
  | n + 1 => fun a0 a1 a2 S => fX6_isTold_i2 (fX6_isTold_l2 n) a0 a1 a2 S
def fX6_isTold (p0 : Option Nat) (p1 : Int32) (S : gS) : Option Int32 :=
  fX6_isTold_l2 gFU p0 p1 (0 : Int32) S
theorem wfX6_isTold_l2 {r : Int32} (C : gCx p l R s m args meth c D K RX6 cX6_isTold 3 (Option.some Jvm.ClassFile.FieldType.boolean) [] "isTold" u0) (hRf : R.frames = 1) (hRl : R.locals = 100) : ∀ (n : Nat) (a0 : Option Nat) (a1 : Int32) (a2 : Int32) (S : gS), fX6_isTold_l2 n a0 a1 a2 S = some r → gW p l e R s m args below meth c D K 3 u0 (gEnd below args s D K u0 (.inl (some (.int r))) S) S 2 [(0, va_rf a0), (1, .int a1), (2, .int a2)] [] := by
  intro n
  induction n with
  | zero => intro a0 a1 a2 S hF; cases hF
  | succ n hih =>
    intro a0 a1 a2 S hF
    have hF : fX6_isTold_i2 (fX6_isTold_l2 n) a0 a1 a2 S = some r := hF
    revert hF hih
    generalize fX6_isTold_l2 n = ih
    intro hih hF
    unfold fX6_isTold_i2 at hF
    refine g_iload_n C 2 dX6_isTold_2 rfl ?_
    refine g_aload_n C 0 dX6_isTold_3 rfl ?_
    refine g_getI C dX6_isTold_4 fd_24 (Or.inl q2061) (Or.inl rfl) hF (fun x1 hF => ?_)
    refine g_icmp_ge C 30 dX6_isTold_7 rfl hF (fun c hF => ?_) (fun c hF => ?_)
    · refine g_iconst (v := (0 : Int32)) C dX6_isTold_30 rfl ?_
      cases hF
      exact g_zret (ty := .boolean) C (rfl) dX6_isTold_31 rfl rfl
    · refine g_aload_n C 0 dX6_isTold_10 rfl ?_
      refine g_getR C dX6_isTold_11 fd_33 (Or.inl q2051) (Or.inl rfl) hF (fun x2 hF => ?_)
      refine g_iload_n C 2 dX6_isTold_14 rfl ?_
      refine g_aald C (kd := 5) rfl dX6_isTold_15 hF (fun x3 hF => ?_)
      refine g_iconst (v := (0 : Int32)) C dX6_isTold_16 rfl ?_
      refine g_iald C dX6_isTold_17 hF (fun x4 hF => ?_)
      refine g_iload_n C 1 dX6_isTold_18 rfl ?_
      refine g_icmp_ne C 24 dX6_isTold_19 rfl hF (fun c hF => ?_) (fun c hF => ?_)
      · refine g_iinc (v := (1 : Int32)) C 2 dX6_isTold_24 rfl rfl (by decide) rfl ?_
        refine g_goto C 2 dX6_isTold_27 rfl ?_
        exact g_sub [1, 2, 0] rfl (hih a0 a1 (a2 + (1 : Int32)) S hF)
      · refine g_iconst (v := (1 : Int32)) C dX6_isTold_22 rfl ?_
        cases hF
        exact g_zret (ty := .boolean) C (rfl) dX6_isTold_23 rfl rfl
theorem mX6_isTold {l : Launch} {D : gD} {K : gK} (hl : l.stackTraces = false) : ∀ (p0 : Option Nat) (p1 : Int32) (S : gS) (r : Int32), fX6_isTold p0 p1 S = some r → gMet l D K yX6_isTold (ws_ yX6_isTold cX6_isTold 3 (Option.some Jvm.ClassFile.FieldType.boolean)) 1 100 [va_rf p0, .int p1] S (.inl (some (.int r))) S := by
  intro p0 p1 S r hF
  unfold fX6_isTold at hF
  refine gMet.of hl (by decide +kernel) rfl (gle (lgs_r (lgs_i lgs_0)) (by decide)) (fun p e s m below meth c R hRf hRl C _ => ?_)
  generalize hargs : ([va_rf p0, .int p1] : List Value).toArray = args at C ⊢
  generalize hu0 : S.2.2.1 = u0 at C ⊢
  rw [show lv_args 0 [va_rf p0, .int p1] = [(0, va_rf p0), (1, .int p1)] from (lva_r rfl (lva_i rfl lva_0))]
  refine g_iconst (v := (0 : Int32)) C dX6_isTold_0 rfl ?_
  refine g_istore_n C dX6_isTold_1 (by decide) rfl ?_
  exact g_sub [1, 2, 0] rfl (wfX6_isTold_l2 C hRf hRl gFU p0 p1 (0 : Int32) S hF)
/-! VowelChoirModel.worstOf(I)I -/
def fX6_worstOf_i7 (ih : (Option Nat) → (Int32) → (Int32) → (Int32) → (Int32) → gS → Option (Int32 × gS)) (a0 : Option Nat) (a1 : Int32) (a2 : Int32) (a3 : Int32) (a4 : Int32) (S : gS) : Option (Int32 × gS) :=
  (gV [3] a0 S (fX6_everySinger a0 S)).bind fun x1 =>
  (if x1 < a4 then
  some (fX6_more a2 (a3 - a2), S)
  else
  gB (gV [3] a0 S (fX6_isHeard a0 a4 S)) fun x2 S3 =>
  (if x2 = 0 then
  ih a0 a1 a2 a3 (a4 + (1 : Int32)) S3
  else
  (oGetI [3] 38 a0 S3).bind fun x4 =>
  ih a0 a1 (a2 + ((x4 >>> (a1 &&& 31)) &&& (1 : Int32))) (a3 + (1 : Int32)) (a4 + (1 : Int32)) S3))
def fX6_worstOf_l7 : Nat → (Option Nat) → (Int32) → (Int32) → (Int32) → (Int32) → gS → Option (Int32 × gS)
  | 0 => fun _ _ _ _ _ _ => none
  | n + 1 => fun a0 a1 a2 a3 a4 S => fX6_worstOf_i7 (fX6_worstOf_l7 n) a0 a1 a2 a3 a4 S
def fX6_worstOf (p0 : Option Nat) (p1 : Int32) (S : gS) : Option (Int32 × gS) :=
  fX6_worstOf_l7 gFU p0 p1 (0 : Int32) (0 : Int32) (0 : Int32) S
theorem wfX6_worstOf_l7 {r : Int32} {S1 : gS} (C : gCx p l R s m args meth c D K RX6 cX6_worstOf 5 (Option.some Jvm.ClassFile.FieldType.int) [] "worstOf" u0) (hRf : R.frames = 10) (hRl : R.locals = 307) : ∀ (n : Nat) (a0 : Option Nat) (a1 : Int32) (a2 : Int32) (a3 : Int32) (a4 : Int32) (S : gS), fX6_worstOf_l7 n a0 a1 a2 a3 a4 S = some (r, S1) → gW p l e R s m args below meth c D K 5 u0 (gEnd below args s D K u0 (.inl (some (.int r))) S1) S 7 [(0, va_rf a0), (1, .int a1), (2, .int a2), (3, .int a3), (4, .int a4)] [] := by
  intro n
  induction n with
  | zero => intro a0 a1 a2 a3 a4 S hF; cases hF
  | succ n hih =>
    intro a0 a1 a2 a3 a4 S hF
    have hF : fX6_worstOf_i7 (fX6_worstOf_l7 n) a0 a1 a2 a3 a4 S = some (r, S1) := hF
    revert hF hih
    generalize fX6_worstOf_l7 n = ih
    intro hih hF
    unfold fX6_worstOf_i7 at hF
    refine g_iload C 4 dX6_worstOf_7 rfl ?_
    refine g_aload_n C 0 dX6_worstOf_9 rfl ?_
    obtain ⟨x1, h, hF⟩ := oB hF
    obtain ⟨hi, h⟩ := gV_some h
    refine g_after (g_runV (n := 0) C dX6_worstOf_10 rfl hi (mX6_everySinger C.2.2.2.2.2.2.2.2.2.2.2.1 a0 S _ h) (lw_V q2421 q2423 qs84 q124 q2424) (by decide +kernel) ⟨by rw [hRf]; exact Nat.le_of_ble_eq_true rfl, by rw [hRl]; exact Nat.le_of_ble_eq_true rfl⟩ rfl rfl (gle (gc_i gc_0) (by decide))) ?_
    refine g_icmp_gt C 48 dX6_worstOf_13 rfl hF (fun c hF => ?_) (fun c hF => ?_)
    · refine g_iload_n C 2 dX6_worstOf_48 rfl ?_
      refine g_iload_n C 3 dX6_worstOf_49 rfl ?_
      refine g_iload_n C 2 dX6_worstOf_50 rfl ?_
      refine g_isub C dX6_worstOf_51 ?_
      refine g_after (g_runS (n := 2) C dX6_worstOf_52 (mX6_more C.2.2.2.2.2.2.2.2.2.2.2.1 a2 (a3 - a2) S _ rfl) (lw_S q2344 q2345 q124 q2346) (by decide +kernel) ⟨by rw [hRf]; exact Nat.le_of_ble_eq_true rfl, by rw [hRl]; exact Nat.le_of_ble_eq_true rfl⟩ rfl rfl (gle gc_0 (by decide))) ?_
      cases hF
      exact g_iret C dX6_worstOf_55 rfl rfl
    · refine g_aload_n C 0 dX6_worstOf_16 rfl ?_
      refine g_iload C 4 dX6_worstOf_17 rfl ?_
      obtain ⟨x2, S3, h, hF⟩ := gB_some hF
      obtain ⟨hi, h⟩ := gV_some h
      refine g_after (g_runV (n := 1) C dX6_worstOf_19 rfl hi (mX6_isHeard C.2.2.2.2.2.2.2.2.2.2.2.1 a0 a4 S _ _ h) (lw_V q2472 q2474 qs90 q124 q2475) (by decide +kernel) ⟨by rw [hRf]; exact Nat.le_of_ble_eq_true rfl, by rw [hRl]; exact Nat.le_of_ble_eq_true rfl⟩ rfl rfl (gle gc_0 (by decide))) ?_
      refine g_if_ne C 28 dX6_worstOf_22 rfl hF (fun c hF => ?_) (fun c hF => ?_)
      · refine g_iinc (v := (1 : Int32)) C 3 dX6_worstOf_28 rfl rfl (by decide) rfl ?_
        refine g_iload_n C 3 dX6_worstOf_31 rfl ?_
        refine g_aload_n C 1 dX6_worstOf_32 rfl ?_
        refine g_getI C dX6_worstOf_33 fd_54 (Or.inl q2066) (Or.inl rfl) hF (fun x4 hF => ?_)
        refine g_iload_n C 2 dX6_worstOf_36 rfl ?_
        refine g_ishr C dX6_worstOf_37 ?_
        refine g_iconst (v := (1 : Int32)) C dX6_worstOf_38 rfl ?_
        refine g_iand C dX6_worstOf_39 ?_
        refine g_iadd C dX6_worstOf_40 ?_
        refine g_istore_n C dX6_worstOf_41 (by decide) rfl ?_
        refine g_iinc (v := (1 : Int32)) C 4 dX6_worstOf_42 rfl rfl (by decide) rfl ?_
        refine g_goto C 7 dX6_worstOf_45 rfl ?_
        exact g_sub [3, 4, 1, 2, 0] rfl (hih a0 a1 (a2 + ((x4 >>> (a1 &&& 31)) &&& (1 : Int32))) (a3 + (1 : Int32)) (a4 + (1 : Int32)) S3 hF)
      · refine g_goto C 42 dX6_worstOf_25 rfl ?_
        refine g_iinc (v := (1 : Int32)) C 4 dX6_worstOf_42 rfl rfl (by decide) rfl ?_
        refine g_goto C 7 dX6_worstOf_45 rfl ?_
        exact g_sub [1, 2, 3, 4, 0] rfl (hih a0 a1 a2 a3 (a4 + (1 : Int32)) S3 hF)
theorem mX6_worstOf {l : Launch} {D : gD} {K : gK} (hl : l.stackTraces = false) : ∀ (p0 : Option Nat) (p1 : Int32) (S : gS) (r : Int32) (S1 : gS), fX6_worstOf p0 p1 S = some (r, S1) → gMet l D K yX6_worstOf (ws_ yX6_worstOf cX6_worstOf 5 (Option.some Jvm.ClassFile.FieldType.int)) 10 307 [va_rf p0, .int p1] S (.inl (some (.int r))) S1 := by
  intro p0 p1 S r S1 hF
  unfold fX6_worstOf at hF
  refine gMet.of hl (by decide +kernel) rfl (gle (lgs_r (lgs_i lgs_0)) (by decide)) (fun p e s m below meth c R hRf hRl C _ => ?_)
  generalize hargs : ([va_rf p0, .int p1] : List Value).toArray = args at C ⊢
  generalize hu0 : S.2.2.1 = u0 at C ⊢
  rw [show lv_args 0 [va_rf p0, .int p1] = [(0, va_rf p0), (1, .int p1)] from (lva_r rfl (lva_i rfl lva_0))]
  refine g_iconst (v := (0 : Int32)) C dX6_worstOf_0 rfl ?_
  refine g_istore_n C dX6_worstOf_1 (by decide) rfl ?_
  refine g_iconst (v := (0 : Int32)) C dX6_worstOf_2 rfl ?_
  refine g_istore_n C dX6_worstOf_3 (by decide) rfl ?_
  refine g_iconst (v := (0 : Int32)) C dX6_worstOf_4 rfl ?_
  refine g_istore C dX6_worstOf_5 (by decide) rfl ?_
  exact g_sub [3, 4, 2, 1, 0] rfl (wfX6_worstOf_l7 C hRf hRl gFU p0 p1 (0 : Int32) (0 : Int32) (0 : Int32) S hF)
/-! VowelChoirModel.listen(I)I -/
def fX6_listen_i37 (ih : (Option Nat) → (Int32) → (Int32) → (Int32) → (Int32) → gS → Option (Int32 × gS)) (a0 : Option Nat) (a1 : Int32) (a2 : Int32) (a3 : Int32) (a4 : Int32) (S : gS) : Option (Int32 × gS) :=
  (oGetR [3] 12 a0 S).bind fun x1 =>
  (oLdI 0 x1 (1 : Int32) S).bind fun x2 =>
  (if x2 ≤ a4 then
  (if a1 = 0 then
  some (a2, S)
  else
  some (a3, S))
  else
  (gV [3] a0 S (fX6_isTold a0 a4 S)).bind fun x3 =>
  (if x3 = 0 then
  gB (gV [3] a0 S (fX6_worstOf a0 a4 S)) fun x4 S5 =>
  (if a2 = (-1 : Int32) then
  ih a0 a1 a4 x4 (a4 + (1 : Int32)) S5
  else
  (if x4 < a3 then
  ih a0 a1 a4 x4 (a4 + (1 : Int32)) S5
  else
  ih a0 a1 a2 a3 (a4 + (1 : Int32)) S5))
  else
  ih a0 a1 a2 a3 (a4 + (1 : Int32)) S))
def fX6_listen_l37 : Nat → (Option Nat) → (Int32) → (Int32) → (Int32) → (Int32) → gS → Option (Int32 × gS)
  | 0 => fun _ _ _ _ _ _ => none
  | n + 1 => fun a0 a1 a2 a3 a4 S => fX6_listen_i37 (fX6_listen_l37 n) a0 a1 a2 a3 a4 S
def fX6_listen_j20 (a0 : Option Nat) (a1 : Int32) (t0 : Int32) (t1 : Option Nat) (S : gS) : Option (Int32 × gS) :=
  gB (gV [3] t1 S (fX6_bad t1 t0 (1 : Int32) (1 : Int32) S)) fun x1 S2 =>
  (if x1 = 0 then
  fX6_listen_l37 gFU a0 a1 (-1 : Int32) (-1 : Int32) (0 : Int32) S2
  else
  some ((0 : Int32), S2))
def fX6_listen (p0 : Option Nat) (p1 : Int32) (S : gS) : Option (Int32 × gS) :=
  (oPut [3] 0 p0 (.int ((0 : Int32))) S).bind fun S1 =>
  (if (fX6_in p1 (0 : Int32) (1 : Int32)) = 0 then
  fX6_listen_j20 p0 p1 (1 : Int32) p0 S1
  else
  fX6_listen_j20 p0 p1 (0 : Int32) p0 S1)
theorem wfX6_listen_l37 {r : Int32} {S1 : gS} (C : gCx p l R s m args meth c D K RX6 cX6_listen 6 (Option.some Jvm.ClassFile.FieldType.int) [] "listen" u0) (hRf : R.frames = 11) (hRl : R.locals = 331) : ∀ (n : Nat) (a0 : Option Nat) (a1 : Int32) (a2 : Int32) (a3 : Int32) (a4 : Int32) (S : gS), fX6_listen_l37 n a0 a1 a2 a3 a4 S = some (r, S1) → gW p l e R s m args below meth c D K 6 u0 (gEnd below args s D K u0 (.inl (some (.int r))) S1) S 37 [(0, va_rf a0), (1, .int a1), (2, .int a2), (3, .int a3), (4, .int a4)] [] := by
  intro n
  induction n with
  | zero => intro a0 a1 a2 a3 a4 S hF; cases hF
  | succ n hih =>
    intro a0 a1 a2 a3 a4 S hF
    have hF : fX6_listen_i37 (fX6_listen_l37 n) a0 a1 a2 a3 a4 S = some (r, S1) := hF
    revert hF hih
    generalize fX6_listen_l37 n = ih
    intro hih hF
    unfold fX6_listen_i37 at hF
    refine g_iload C 4 dX6_listen_37 rfl ?_
    refine g_aload_n C 0 dX6_listen_39 rfl ?_
    refine g_getR C dX6_listen_40 fd_15 (Or.inl q2040) (Or.inl rfl) hF (fun x1 hF => ?_)
    refine g_iconst (v := (1 : Int32)) C dX6_listen_43 rfl ?_
    refine g_iald C dX6_listen_44 hF (fun x2 hF => ?_)
    refine g_icmp_ge C 94 dX6_listen_45 rfl hF (fun c hF => ?_) (fun c hF => ?_)
    · refine g_iload_n C 1 dX6_listen_94 rfl ?_
      refine g_if_ne C 102 dX6_listen_95 rfl hF (fun c hF => ?_) (fun c hF => ?_)
      · refine g_iload_n C 3 dX6_listen_102 rfl ?_
        cases hF
        exact g_iret C dX6_listen_103 rfl rfl
      · refine g_iload_n C 2 dX6_listen_98 rfl ?_
        refine g_goto C 103 dX6_listen_99 rfl ?_
        cases hF
        exact g_iret C dX6_listen_103 rfl rfl
    · refine g_aload_n C 0 dX6_listen_48 rfl ?_
      refine g_iload C 4 dX6_listen_49 rfl ?_
      obtain ⟨x3, h, hF⟩ := oB hF
      obtain ⟨hi, h⟩ := gV_some h
      refine g_after (g_runV (n := 1) C dX6_listen_51 rfl hi (mX6_isTold C.2.2.2.2.2.2.2.2.2.2.2.1 a0 a4 S _ h) (lw_V q2480 q2482 qs91 q124 q2483) (by decide +kernel) ⟨by rw [hRf]; exact Nat.le_of_ble_eq_true rfl, by rw [hRl]; exact Nat.le_of_ble_eq_true rfl⟩ rfl rfl (gle gc_0 (by decide))) ?_
      refine g_if_eq C 60 dX6_listen_54 rfl hF (fun c hF => ?_) (fun c hF => ?_)
      · refine g_aload_n C 0 dX6_listen_60 rfl ?_
        refine g_iload C 4 dX6_listen_61 rfl ?_
        obtain ⟨x4, S5, h, hF⟩ := gB_some hF
        obtain ⟨hi, h⟩ := gV_some h
        refine g_after (g_runV (n := 1) C dX6_listen_63 rfl hi (mX6_worstOf C.2.2.2.2.2.2.2.2.2.2.2.1 a0 a4 S _ _ h) (lw_V q2484 q2486 qs92 q124 q2487) (by decide +kernel) ⟨by rw [hRf]; exact Nat.le_of_ble_eq_true rfl, by rw [hRl]; exact Nat.le_of_ble_eq_true rfl⟩ rfl rfl (gle gc_0 (by decide))) ?_
        refine g_istore C dX6_listen_66 (by decide) rfl ?_
        refine g_iload_n C 3 dX6_listen_68 rfl ?_
        refine g_iconst (v := (-1 : Int32)) C dX6_listen_69 rfl ?_
        refine g_icmp_eq C 82 dX6_listen_70 rfl hF (fun c hF => ?_) (fun c hF => ?_)
        · refine g_iload C 5 dX6_listen_82 rfl ?_
          refine g_istore_n C dX6_listen_84 (by decide) rfl ?_
          refine g_iload C 1 dX6_listen_85 rfl ?_
          refine g_istore_n C dX6_listen_87 (by decide) rfl ?_
          refine g_iinc (v := (1 : Int32)) C 5 dX6_listen_88 rfl rfl (by decide) rfl ?_
          refine g_goto C 37 dX6_listen_91 rfl ?_
          exact g_sub [4, 5, 2, 1, 0] rfl (hih a0 a1 a4 x4 (a4 + (1 : Int32)) S5 hF)
        · refine g_iload C 0 dX6_listen_73 rfl ?_
          refine g_iload_n C 4 dX6_listen_75 rfl ?_
          refine g_icmp_lt C 82 dX6_listen_76 rfl hF (fun c hF => ?_) (fun c hF => ?_)
          · refine g_iload C 5 dX6_listen_82 rfl ?_
            refine g_istore_n C dX6_listen_84 (by decide) rfl ?_
            refine g_iload C 1 dX6_listen_85 rfl ?_
            refine g_istore_n C dX6_listen_87 (by decide) rfl ?_
            refine g_iinc (v := (1 : Int32)) C 5 dX6_listen_88 rfl rfl (by decide) rfl ?_
            refine g_goto C 37 dX6_listen_91 rfl ?_
            exact g_sub [4, 5, 2, 1, 0] rfl (hih a0 a1 a4 x4 (a4 + (1 : Int32)) S5 hF)
          · refine g_goto C 88 dX6_listen_79 rfl ?_
            refine g_iinc (v := (1 : Int32)) C 5 dX6_listen_88 rfl rfl (by decide) rfl ?_
            refine g_goto C 37 dX6_listen_91 rfl ?_
            exact g_sub [2, 3, 4, 5, 0] rfl (hih a0 a1 a2 a3 (a4 + (1 : Int32)) S5 hF)
      · refine g_goto C 88 dX6_listen_57 rfl ?_
        refine g_iinc (v := (1 : Int32)) C 4 dX6_listen_88 rfl rfl (by decide) rfl ?_
        refine g_goto C 37 dX6_listen_91 rfl ?_
        exact g_sub [1, 2, 3, 4, 0] rfl (hih a0 a1 a2 a3 (a4 + (1 : Int32)) S hF)
theorem wfX6_listen_j20 {r : Int32} {S1 : gS} (C : gCx p l R s m args meth c D K RX6 cX6_listen 6 (Option.some Jvm.ClassFile.FieldType.int) [] "listen" u0) (hRf : R.frames = 11) (hRl : R.locals = 331) : ∀ (a0 : Option Nat) (a1 : Int32) (t0 : Int32) (t1 : Option Nat) (S : gS), fX6_listen_j20 a0 a1 t0 t1 S = some (r, S1) → gW p l e R s m args below meth c D K 6 u0 (gEnd below args s D K u0 (.inl (some (.int r))) S1) S 20 [(0, va_rf a0), (1, .int a1)] [.int t0, va_rf t1] := by
  intro a0 a1 t0 t1 S hF
  unfold fX6_listen_j20 at hF
  refine g_iconst (v := (1 : Int32)) C dX6_listen_20 rfl ?_
  refine g_iconst (v := (1 : Int32)) C dX6_listen_21 rfl ?_
  obtain ⟨x1, S2, h, hF⟩ := gB_some hF
  obtain ⟨hi, h⟩ := gV_some h
  refine g_after (g_runV (n := 3) C dX6_listen_22 rfl hi (mX6_bad C.2.2.2.2.2.2.2.2.2.2.2.1 t1 t0 (1 : Int32) (1 : Int32) S _ _ h) (lw_V q2183 q2185 qs46 q124 q2186) (by decide +kernel) ⟨by rw [hRf]; exact Nat.le_of_ble_eq_true rfl, by rw [hRl]; exact Nat.le_of_ble_eq_true rfl⟩ rfl rfl (gle gc_0 (by decide))) ?_
  refine g_if_eq C 30 dX6_listen_25 rfl hF (fun c hF => ?_) (fun c hF => ?_)
  · refine g_iconst (v := (-1 : Int32)) C dX6_listen_30 rfl ?_
    refine g_istore_n C dX6_listen_31 (by decide) rfl ?_
    refine g_iconst (v := (-1 : Int32)) C dX6_listen_32 rfl ?_
    refine g_istore_n C dX6_listen_33 (by decide) rfl ?_
    refine g_iconst (v := (0 : Int32)) C dX6_listen_34 rfl ?_
    refine g_istore C dX6_listen_35 (by decide) rfl ?_
    exact g_sub [3, 4, 2, 1, 0] rfl (wfX6_listen_l37 C hRf hRl gFU a0 a1 (-1 : Int32) (-1 : Int32) (0 : Int32) S2 hF)
  · refine g_iconst (v := (0 : Int32)) C dX6_listen_28 rfl ?_
    cases hF
    exact g_iret C dX6_listen_29 rfl rfl
theorem mX6_listen {l : Launch} {D : gD} {K : gK} (hl : l.stackTraces = false) : ∀ (p0 : Option Nat) (p1 : Int32) (S : gS) (r : Int32) (S1 : gS), fX6_listen p0 p1 S = some (r, S1) → gMet l D K yX6_listen (ws_ yX6_listen cX6_listen 6 (Option.some Jvm.ClassFile.FieldType.int)) 11 331 [va_rf p0, .int p1] S (.inl (some (.int r))) S1 := by
  intro p0 p1 S r S1 hF
  unfold fX6_listen at hF
  refine gMet.of hl (by decide +kernel) rfl (gle (lgs_r (lgs_i lgs_0)) (by decide)) (fun p e s m below meth c R hRf hRl C _ => ?_)
  generalize hargs : ([va_rf p0, .int p1] : List Value).toArray = args at C ⊢
  generalize hu0 : S.2.2.1 = u0 at C ⊢
  rw [show lv_args 0 [va_rf p0, .int p1] = [(0, va_rf p0), (1, .int p1)] from (lva_r rfl (lva_i rfl lva_0))]
  refine g_aload_n C 0 dX6_listen_0 rfl ?_
  refine g_iconst (v := (0 : Int32)) C dX6_listen_1 rfl ?_
  refine g_put C dX6_listen_2 fd_44 (Or.inl q2028) (Or.inl rfl) pf_0 rfl rfl hF (fun S1 hF => ?_)
  refine g_aload_n C 0 dX6_listen_5 rfl ?_
  refine g_iload_n C 1 dX6_listen_6 rfl ?_
  refine g_iconst (v := (0 : Int32)) C dX6_listen_7 rfl ?_
  refine g_iconst (v := (1 : Int32)) C dX6_listen_8 rfl ?_
  refine g_after (g_runS (n := 3) C dX6_listen_9 (mX6_in C.2.2.2.2.2.2.2.2.2.2.2.1 p1 (0 : Int32) (1 : Int32) S1 _ rfl) (lw_S q2180 q2181 q124 q2182) (by decide +kernel) ⟨by rw [hRf]; exact Nat.le_of_ble_eq_true rfl, by rw [hRl]; exact Nat.le_of_ble_eq_true rfl⟩ rfl rfl (gle (gc_r gc_0) (by decide))) ?_
  refine g_if_ne C 19 dX6_listen_12 rfl hF (fun c hF => ?_) (fun c hF => ?_)
  · refine g_iconst (v := (0 : Int32)) C dX6_listen_19 rfl ?_
    exact g_sub [0, 1] rfl (wfX6_listen_j20 C hRf hRl p0 p1 (0 : Int32) p0 S1 hF)
  · refine g_iconst (v := (1 : Int32)) C dX6_listen_15 rfl ?_
    refine g_goto C 20 dX6_listen_16 rfl ?_
    exact g_sub [0, 1] rfl (wfX6_listen_j20 C hRf hRl p0 p1 (1 : Int32) p0 S1 hF)
/-! VowelChoirModel.duty(I)I -/
def fX6_duty_j75 (k44 : (Option Nat) → (Int32) → (Int32) → (Int32) → gS → Option (Int32 × gS)) (a0 : Option Nat) (a1 : Int32) (a3 : Int32) (t0 : Int32) (t1 : Int32) (S : gS) : Option (Int32 × gS) :=
  (oGetR [3] 30 a0 S).bind fun x1 =>
  gB (gV [3] a0 S (fX6_sings a0 x1 a3 S)) fun x2 S3 =>
  k44 a0 a1 (t1 ||| t0) (a3 + (1 : Int32)) S3
def fX6_duty_i44 (ih : (Option Nat) → (Int32) → (Int32) → (Int32) → gS → Option (Int32 × gS)) (a0 : Option Nat) (a1 : Int32) (a2 : Int32) (a3 : Int32) (S : gS) : Option (Int32 × gS) :=
  (oGetR [3] 12 a0 S).bind fun x1 =>
  (oLdI 0 x1 (1 : Int32) S).bind fun x2 =>
  (if x2 ≤ a3 then
  some (a2, S)
  else
  (oGetR [3] 30 a0 S).bind fun x3 =>
  gB (gV [3] a0 S (fX6_sungBy a0 x3 a3 S)) fun x4 S5 =>
  (if x4 = a1 then
  fX6_duty_j75 ih a0 a1 a3 ((1 : Int32) <<< (a3 &&& 31)) a2 S5
  else
  fX6_duty_j75 ih a0 a1 a3 (0 : Int32) a2 S5))
def fX6_duty_l44 : Nat → (Option Nat) → (Int32) → (Int32) → (Int32) → gS → Option (Int32 × gS)
  | 0 => fun _ _ _ _ _ => none
  | n + 1 => fun a0 a1 a2 a3 S => fX6_duty_i44 (fX6_duty_l44 n) a0 a1 a2 a3 S
def fX6_duty_j19 (a0 : Option Nat) (a1 : Int32) (t0 : Int32) (t1 : Option Nat) (S : gS) : Option (Int32 × gS) :=
  gB (gV [3] t1 S (fX6_bad t1 t0 (1 : Int32) (0 : Int32) S)) fun x1 S2 =>
  (if x1 = 0 then
  (oGetR [3] 29 a0 S2).bind fun x3 =>
  (oGetR [3] 30 a0 S2).bind fun x4 =>
  gB (fX6_copies x3 x4 S2) fun x5 S6 =>
  fX6_duty_l44 gFU a0 a1 (0 : Int32) (0 : Int32) S6
  else
  some ((0 : Int32), S2))
def fX6_duty (p0 : Option Nat) (p1 : Int32) (S : gS) : Option (Int32 × gS) :=
  (oPut [3] 0 p0 (.int ((0 : Int32))) S).bind fun S1 =>
  (gV [3] p0 S1 (fX6_isSinger p0 p1 S1)).bind fun x2 =>
  (if x2 = 0 then
  fX6_duty_j19 p0 p1 (1 : Int32) p0 S1
  else
  fX6_duty_j19 p0 p1 (0 : Int32) p0 S1)
theorem wfX6_duty_j75 {r : Int32} {S1 : gS} (C : gCx p l R s m args meth c D K RX6 cX6_duty 4 (Option.some Jvm.ClassFile.FieldType.int) [] "duty" u0) (hRf : R.frames = 8) (hRl : R.locals = 262) (k44 : (Option Nat) → (Int32) → (Int32) → (Int32) → gS → Option (Int32 × gS)) (hk44 : ∀ (a0 : Option Nat) (a1 : Int32) (a2 : Int32) (a3 : Int32) (S : gS), k44 a0 a1 a2 a3 S = some (r, S1) → gW p l e R s m args below meth c D K 4 u0 (gEnd below args s D K u0 (.inl (some (.int r))) S1) S 44 [(0, va_rf a0), (1, .int a1), (2, .int a2), (3, .int a3)] []) : ∀ (a0 : Option Nat) (a1 : Int32) (a3 : Int32) (t0 : Int32) (t1 : Int32) (S : gS), fX6_duty_j75 k44 a0 a1 a3 t0 t1 S = some (r, S1) → gW p l e R s m args below meth c D K 4 u0 (gEnd below args s D K u0 (.inl (some (.int r))) S1) S 75 [(0, va_rf a0), (1, .int a1), (3, .int a3)] [.int t0, .int t1] := by
  intro a0 a1 a3 t0 t1 S hF
  unfold fX6_duty_j75 at hF
  refine g_ior C dX6_duty_75 ?_
  refine g_istore_n C dX6_duty_76 (by decide) rfl ?_
  refine g_aload_n C 1 dX6_duty_77 rfl ?_
  refine g_aload_n C 1 dX6_duty_78 rfl ?_
  refine g_getR C dX6_duty_79 fd_38 (Or.inl q2058) (Or.inl rfl) hF (fun x1 hF => ?_)
  refine g_iload_n C 3 dX6_duty_82 rfl ?_
  obtain ⟨x2, S3, h, hF⟩ := gB_some hF
  obtain ⟨hi, h⟩ := gV_some h
  refine g_after (g_runV (n := 2) C dX6_duty_83 rfl hi (mX6_sings C.2.2.2.2.2.2.2.2.2.2.2.1 a0 x1 a3 S _ _ h) (lw_V q2318 q2320 qs71 q124 q2321) (by decide +kernel) ⟨by rw [hRf]; exact Nat.le_of_ble_eq_true rfl, by rw [hRl]; exact Nat.le_of_ble_eq_true rfl⟩ rfl rfl (gle gc_0 (by decide))) ?_
  refine g_pop C dX6_duty_86 rfl ?_
  refine g_iinc (v := (1 : Int32)) C 3 dX6_duty_87 rfl rfl (by decide) rfl ?_
  refine g_goto C 44 dX6_duty_90 rfl ?_
  exact g_sub [2, 3, 1, 0] rfl (hk44 a0 a1 (t1 ||| t0) (a3 + (1 : Int32)) S3 hF)
theorem wfX6_duty_l44 {r : Int32} {S1 : gS} (C : gCx p l R s m args meth c D K RX6 cX6_duty 4 (Option.some Jvm.ClassFile.FieldType.int) [] "duty" u0) (hRf : R.frames = 8) (hRl : R.locals = 262) : ∀ (n : Nat) (a0 : Option Nat) (a1 : Int32) (a2 : Int32) (a3 : Int32) (S : gS), fX6_duty_l44 n a0 a1 a2 a3 S = some (r, S1) → gW p l e R s m args below meth c D K 4 u0 (gEnd below args s D K u0 (.inl (some (.int r))) S1) S 44 [(0, va_rf a0), (1, .int a1), (2, .int a2), (3, .int a3)] [] := by
  intro n
  induction n with
  | zero => intro a0 a1 a2 a3 S hF; cases hF
  | succ n hih =>
    intro a0 a1 a2 a3 S hF
    have hF : fX6_duty_i44 (fX6_duty_l44 n) a0 a1 a2 a3 S = some (r, S1) := hF
    revert hF hih
    generalize fX6_duty_l44 n = ih
    intro hih hF
    unfold fX6_duty_i44 at hF
    refine g_iload_n C 3 dX6_duty_44 rfl ?_
    refine g_aload_n C 0 dX6_duty_45 rfl ?_
    refine g_getR C dX6_duty_46 fd_15 (Or.inl q2040) (Or.inl rfl) hF (fun x1 hF => ?_)
    refine g_iconst (v := (1 : Int32)) C dX6_duty_49 rfl ?_
    refine g_iald C dX6_duty_50 hF (fun x2 hF => ?_)
    refine g_icmp_ge C 93 dX6_duty_51 rfl hF (fun c hF => ?_) (fun c hF => ?_)
    · refine g_iload_n C 2 dX6_duty_93 rfl ?_
      cases hF
      exact g_iret C dX6_duty_94 rfl rfl
    · refine g_iload_n C 2 dX6_duty_54 rfl ?_
      refine g_aload_n C 0 dX6_duty_55 rfl ?_
      refine g_aload_n C 0 dX6_duty_56 rfl ?_
      refine g_getR C dX6_duty_57 fd_38 (Or.inl q2058) (Or.inl rfl) hF (fun x3 hF => ?_)
      refine g_iload_n C 3 dX6_duty_60 rfl ?_
      obtain ⟨x4, S5, h, hF⟩ := gB_some hF
      obtain ⟨hi, h⟩ := gV_some h
      refine g_after (g_runV (n := 2) C dX6_duty_61 rfl hi (mX6_sungBy C.2.2.2.2.2.2.2.2.2.2.2.1 a0 x3 a3 S _ _ h) (lw_V q2322 q2324 qs72 q124 q2325) (by decide +kernel) ⟨by rw [hRf]; exact Nat.le_of_ble_eq_true rfl, by rw [hRl]; exact Nat.le_of_ble_eq_true rfl⟩ rfl rfl (gle (gc_i gc_0) (by decide))) ?_
      refine g_iload_n C 1 dX6_duty_64 rfl ?_
      refine g_icmp_ne C 74 dX6_duty_65 rfl hF (fun c hF => ?_) (fun c hF => ?_)
      · refine g_iconst (v := (0 : Int32)) C dX6_duty_74 rfl ?_
        exact g_sub [0, 1, 3] rfl (wfX6_duty_j75 C hRf hRl (ih) (hih) a0 a1 a3 (0 : Int32) a2 S5 hF)
      · refine g_iconst (v := (1 : Int32)) C dX6_duty_68 rfl ?_
        refine g_iload_n C 3 dX6_duty_69 rfl ?_
        refine g_ishl C dX6_duty_70 ?_
        refine g_goto C 75 dX6_duty_71 rfl ?_
        exact g_sub [0, 1, 3] rfl (wfX6_duty_j75 C hRf hRl (ih) (hih) a0 a1 a3 ((1 : Int32) <<< (a3 &&& 31)) a2 S5 hF)
theorem wfX6_duty_j19 {r : Int32} {S1 : gS} (C : gCx p l R s m args meth c D K RX6 cX6_duty 4 (Option.some Jvm.ClassFile.FieldType.int) [] "duty" u0) (hRf : R.frames = 8) (hRl : R.locals = 262) : ∀ (a0 : Option Nat) (a1 : Int32) (t0 : Int32) (t1 : Option Nat) (S : gS), fX6_duty_j19 a0 a1 t0 t1 S = some (r, S1) → gW p l e R s m args below meth c D K 4 u0 (gEnd below args s D K u0 (.inl (some (.int r))) S1) S 19 [(0, va_rf a0), (1, .int a1)] [.int t0, va_rf t1] := by
  intro a0 a1 t0 t1 S hF
  unfold fX6_duty_j19 at hF
  refine g_iconst (v := (1 : Int32)) C dX6_duty_19 rfl ?_
  refine g_iconst (v := (0 : Int32)) C dX6_duty_20 rfl ?_
  obtain ⟨x1, S2, h, hF⟩ := gB_some hF
  obtain ⟨hi, h⟩ := gV_some h
  refine g_after (g_runV (n := 3) C dX6_duty_21 rfl hi (mX6_bad C.2.2.2.2.2.2.2.2.2.2.2.1 t1 t0 (1 : Int32) (0 : Int32) S _ _ h) (lw_V q2183 q2185 qs46 q124 q2186) (by decide +kernel) ⟨by rw [hRf]; exact Nat.le_of_ble_eq_true rfl, by rw [hRl]; exact Nat.le_of_ble_eq_true rfl⟩ rfl rfl (gle gc_0 (by decide))) ?_
  refine g_if_eq C 29 dX6_duty_24 rfl hF (fun c hF => ?_) (fun c hF => ?_)
  · refine g_iconst (v := (0 : Int32)) C dX6_duty_29 rfl ?_
    refine g_istore_n C dX6_duty_30 (by decide) rfl ?_
    refine g_aload_n C 1 dX6_duty_31 rfl ?_
    refine g_getR C dX6_duty_32 fd_22 (Or.inl q2057) (Or.inl rfl) hF (fun x3 hF => ?_)
    refine g_aload_n C 1 dX6_duty_35 rfl ?_
    refine g_getR C dX6_duty_36 fd_38 (Or.inl q2058) (Or.inl rfl) hF (fun x4 hF => ?_)
    obtain ⟨x5, S6, h, hF⟩ := gB_some hF
    refine g_after (g_runS (n := 2) C dX6_duty_39 (mX6_copies C.2.2.2.2.2.2.2.2.2.2.2.1 x3 x4 S2 _ _ h) (lw_S q2307 q2308 q124 q2309) (by decide +kernel) ⟨by rw [hRf]; exact Nat.le_of_ble_eq_true rfl, by rw [hRl]; exact Nat.le_of_ble_eq_true rfl⟩ rfl rfl (gle gc_0 (by decide))) ?_
    refine g_iconst (v := (0 : Int32)) C dX6_duty_42 rfl ?_
    refine g_istore_n C dX6_duty_43 (by decide) rfl ?_
    exact g_sub [2, 3, 1, 0] rfl (wfX6_duty_l44 C hRf hRl gFU a0 a1 (0 : Int32) (0 : Int32) S6 hF)
  · refine g_iconst (v := (0 : Int32)) C dX6_duty_27 rfl ?_
    cases hF
    exact g_iret C dX6_duty_28 rfl rfl
theorem mX6_duty {l : Launch} {D : gD} {K : gK} (hl : l.stackTraces = false) : ∀ (p0 : Option Nat) (p1 : Int32) (S : gS) (r : Int32) (S1 : gS), fX6_duty p0 p1 S = some (r, S1) → gMet l D K yX6_duty (ws_ yX6_duty cX6_duty 4 (Option.some Jvm.ClassFile.FieldType.int)) 8 262 [va_rf p0, .int p1] S (.inl (some (.int r))) S1 := by
  intro p0 p1 S r S1 hF
  unfold fX6_duty at hF
  refine gMet.of hl (by decide +kernel) rfl (gle (lgs_r (lgs_i lgs_0)) (by decide)) (fun p e s m below meth c R hRf hRl C _ => ?_)
  generalize hargs : ([va_rf p0, .int p1] : List Value).toArray = args at C ⊢
  generalize hu0 : S.2.2.1 = u0 at C ⊢
  rw [show lv_args 0 [va_rf p0, .int p1] = [(0, va_rf p0), (1, .int p1)] from (lva_r rfl (lva_i rfl lva_0))]
  refine g_aload_n C 0 dX6_duty_0 rfl ?_
  refine g_iconst (v := (0 : Int32)) C dX6_duty_1 rfl ?_
  refine g_put C dX6_duty_2 fd_44 (Or.inl q2028) (Or.inl rfl) pf_0 rfl rfl hF (fun S1 hF => ?_)
  refine g_aload_n C 0 dX6_duty_5 rfl ?_
  refine g_aload_n C 0 dX6_duty_6 rfl ?_
  refine g_iload_n C 1 dX6_duty_7 rfl ?_
  obtain ⟨x2, h, hF⟩ := oB hF
  obtain ⟨hi, h⟩ := gV_some h
  refine g_after (g_runV (n := 1) C dX6_duty_8 rfl hi (mX6_isSinger C.2.2.2.2.2.2.2.2.2.2.2.1 p0 p1 S1 _ h) (lw_V q2386 q2388 qs82 q124 q2389) (by decide +kernel) ⟨by rw [hRf]; exact Nat.le_of_ble_eq_true rfl, by rw [hRl]; exact Nat.le_of_ble_eq_true rfl⟩ rfl rfl (gle (gc_r gc_0) (by decide))) ?_
  refine g_if_ne C 18 dX6_duty_11 rfl hF (fun c hF => ?_) (fun c hF => ?_)
  · refine g_iconst (v := (0 : Int32)) C dX6_duty_18 rfl ?_
    exact g_sub [0, 1] rfl (wfX6_duty_j19 C hRf hRl p0 p1 (0 : Int32) p0 S1 hF)
  · refine g_iconst (v := (1 : Int32)) C dX6_duty_14 rfl ?_
    refine g_goto C 19 dX6_duty_15 rfl ?_
    exact g_sub [0, 1] rfl (wfX6_duty_j19 C hRf hRl p0 p1 (1 : Int32) p0 S1 hF)
/-! VowelChoirModel.range(I)I -/
def fX6_range_i44 (ih : (Option Nat) → (Int32) → (Int32) → (Int32) → gS → Option (Int32 × gS)) (a0 : Option Nat) (a1 : Int32) (a2 : Int32) (a3 : Int32) (S : gS) : Option (Int32 × gS) :=
  (if (20 : Int32) < a3 then
  some (a2, S)
  else
  (oGetR [3] 30 a0 S).bind fun x1 =>
  (oLdI 0 x1 ((14 : Int32) + a1) S).bind fun x2 =>
  (oGetR [3] 30 a0 S).bind fun x3 =>
  gB (gV [3] a0 S (fX6_hymns a0 x3 S)) fun x4 S5 =>
  (oGetR [3] 30 a0 S5).bind fun x6 =>
  (oLdI 0 x6 ((14 : Int32) + a1) S5).bind fun x7 =>
  (if x7 ≤ x2 then
  ih a0 a1 a2 (a3 + (1 : Int32)) S5
  else
  ih a0 a1 a3 (a3 + (1 : Int32)) S5))
def fX6_range_l44 : Nat → (Option Nat) → (Int32) → (Int32) → (Int32) → gS → Option (Int32 × gS)
  | 0 => fun _ _ _ _ _ => none
  | n + 1 => fun a0 a1 a2 a3 S => fX6_range_i44 (fX6_range_l44 n) a0 a1 a2 a3 S
def fX6_range_j19 (a0 : Option Nat) (a1 : Int32) (t0 : Int32) (t1 : Option Nat) (S : gS) : Option (Int32 × gS) :=
  gB (gV [3] t1 S (fX6_bad t1 t0 (1 : Int32) (0 : Int32) S)) fun x1 S2 =>
  (if x1 = 0 then
  (oGetR [3] 29 a0 S2).bind fun x3 =>
  (oGetR [3] 30 a0 S2).bind fun x4 =>
  gB (fX6_copies x3 x4 S2) fun x5 S6 =>
  fX6_range_l44 gFU a0 a1 (0 : Int32) (1 : Int32) S6
  else
  some ((0 : Int32), S2))
def fX6_range (p0 : Option Nat) (p1 : Int32) (S : gS) : Option (Int32 × gS) :=
  (oPut [3] 0 p0 (.int ((0 : Int32))) S).bind fun S1 =>
  (gV [3] p0 S1 (fX6_isSinger p0 p1 S1)).bind fun x2 =>
  (if x2 = 0 then
  fX6_range_j19 p0 p1 (1 : Int32) p0 S1
  else
  fX6_range_j19 p0 p1 (0 : Int32) p0 S1)
theorem wfX6_range_l44 {r : Int32} {S1 : gS} (C : gCx p l R s m args meth c D K RX6 cX6_range 5 (Option.some Jvm.ClassFile.FieldType.int) [] "range" u0) (hRf : R.frames = 9) (hRl : R.locals = 285) : ∀ (n : Nat) (a0 : Option Nat) (a1 : Int32) (a2 : Int32) (a3 : Int32) (S : gS), fX6_range_l44 n a0 a1 a2 a3 S = some (r, S1) → gW p l e R s m args below meth c D K 5 u0 (gEnd below args s D K u0 (.inl (some (.int r))) S1) S 44 [(0, va_rf a0), (1, .int a1), (2, .int a2), (3, .int a3)] [] := by
  intro n
  induction n with
  | zero => intro a0 a1 a2 a3 S hF; cases hF
  | succ n hih =>
    intro a0 a1 a2 a3 S hF
    have hF : fX6_range_i44 (fX6_range_l44 n) a0 a1 a2 a3 S = some (r, S1) := hF
    revert hF hih
    generalize fX6_range_l44 n = ih
    intro hih hF
    unfold fX6_range_i44 at hF
    refine g_iload_n C 3 dX6_range_44 rfl ?_
    refine g_bipush (v := (20 : Int32)) C dX6_range_45 rfl ?_
    refine g_icmp_gt C 95 dX6_range_47 rfl hF (fun c hF => ?_) (fun c hF => ?_)
    · refine g_iload_n C 2 dX6_range_95 rfl ?_
      cases hF
      exact g_iret C dX6_range_96 rfl rfl
    · refine g_aload_n C 0 dX6_range_50 rfl ?_
      refine g_getR C dX6_range_51 fd_38 (Or.inl q2058) (Or.inl rfl) hF (fun x1 hF => ?_)
      refine g_bipush (v := (14 : Int32)) C dX6_range_54 rfl ?_
      refine g_iload_n C 1 dX6_range_56 rfl ?_
      refine g_iadd C dX6_range_57 ?_
      refine g_iald C dX6_range_58 hF (fun x2 hF => ?_)
      refine g_istore C dX6_range_59 (by decide) rfl ?_
      refine g_aload_n C 1 dX6_range_61 rfl ?_
      refine g_aload_n C 1 dX6_range_62 rfl ?_
      refine g_getR C dX6_range_63 fd_38 (Or.inl q2058) (Or.inl rfl) hF (fun x3 hF => ?_)
      obtain ⟨x4, S5, h, hF⟩ := gB_some hF
      obtain ⟨hi, h⟩ := gV_some h
      refine g_after (g_runV (n := 1) C dX6_range_66 rfl hi (mX6_hymns C.2.2.2.2.2.2.2.2.2.2.2.1 a0 x3 S _ _ h) (lw_V q2347 q2349 qs76 q124 q2350) (by decide +kernel) ⟨by rw [hRf]; exact Nat.le_of_ble_eq_true rfl, by rw [hRl]; exact Nat.le_of_ble_eq_true rfl⟩ rfl rfl (gle gc_0 (by decide))) ?_
      refine g_aload_n C 1 dX6_range_69 rfl ?_
      refine g_getR C dX6_range_70 fd_38 (Or.inl q2058) (Or.inl rfl) hF (fun x6 hF => ?_)
      refine g_bipush (v := (14 : Int32)) C dX6_range_73 rfl ?_
      refine g_iload_n C 2 dX6_range_75 rfl ?_
      refine g_iadd C dX6_range_76 ?_
      refine g_iald C dX6_range_77 hF (fun x7 hF => ?_)
      refine g_iload C 0 dX6_range_78 rfl ?_
      refine g_icmp_le C 87 dX6_range_80 rfl hF (fun c hF => ?_) (fun c hF => ?_)
      · refine g_iload_n C 3 dX6_range_87 rfl ?_
        refine g_istore_n C dX6_range_88 (by decide) rfl ?_
        refine g_iinc (v := (1 : Int32)) C 4 dX6_range_89 rfl rfl (by decide) rfl ?_
        refine g_goto C 44 dX6_range_92 rfl ?_
        exact g_sub [3, 4, 1, 0] rfl (hih a0 a1 a2 (a3 + (1 : Int32)) S5 hF)
      · refine g_iload_n C 4 dX6_range_83 rfl ?_
        refine g_goto C 88 dX6_range_84 rfl ?_
        refine g_istore_n C dX6_range_88 (by decide) rfl ?_
        refine g_iinc (v := (1 : Int32)) C 4 dX6_range_89 rfl rfl (by decide) rfl ?_
        refine g_goto C 44 dX6_range_92 rfl ?_
        exact g_sub [3, 4, 1, 0] rfl (hih a0 a1 a3 (a3 + (1 : Int32)) S5 hF)
theorem wfX6_range_j19 {r : Int32} {S1 : gS} (C : gCx p l R s m args meth c D K RX6 cX6_range 5 (Option.some Jvm.ClassFile.FieldType.int) [] "range" u0) (hRf : R.frames = 9) (hRl : R.locals = 285) : ∀ (a0 : Option Nat) (a1 : Int32) (t0 : Int32) (t1 : Option Nat) (S : gS), fX6_range_j19 a0 a1 t0 t1 S = some (r, S1) → gW p l e R s m args below meth c D K 5 u0 (gEnd below args s D K u0 (.inl (some (.int r))) S1) S 19 [(0, va_rf a0), (1, .int a1)] [.int t0, va_rf t1] := by
  intro a0 a1 t0 t1 S hF
  unfold fX6_range_j19 at hF
  refine g_iconst (v := (1 : Int32)) C dX6_range_19 rfl ?_
  refine g_iconst (v := (0 : Int32)) C dX6_range_20 rfl ?_
  obtain ⟨x1, S2, h, hF⟩ := gB_some hF
  obtain ⟨hi, h⟩ := gV_some h
  refine g_after (g_runV (n := 3) C dX6_range_21 rfl hi (mX6_bad C.2.2.2.2.2.2.2.2.2.2.2.1 t1 t0 (1 : Int32) (0 : Int32) S _ _ h) (lw_V q2183 q2185 qs46 q124 q2186) (by decide +kernel) ⟨by rw [hRf]; exact Nat.le_of_ble_eq_true rfl, by rw [hRl]; exact Nat.le_of_ble_eq_true rfl⟩ rfl rfl (gle gc_0 (by decide))) ?_
  refine g_if_eq C 29 dX6_range_24 rfl hF (fun c hF => ?_) (fun c hF => ?_)
  · refine g_iconst (v := (0 : Int32)) C dX6_range_29 rfl ?_
    refine g_istore_n C dX6_range_30 (by decide) rfl ?_
    refine g_aload_n C 1 dX6_range_31 rfl ?_
    refine g_getR C dX6_range_32 fd_22 (Or.inl q2057) (Or.inl rfl) hF (fun x3 hF => ?_)
    refine g_aload_n C 1 dX6_range_35 rfl ?_
    refine g_getR C dX6_range_36 fd_38 (Or.inl q2058) (Or.inl rfl) hF (fun x4 hF => ?_)
    obtain ⟨x5, S6, h, hF⟩ := gB_some hF
    refine g_after (g_runS (n := 2) C dX6_range_39 (mX6_copies C.2.2.2.2.2.2.2.2.2.2.2.1 x3 x4 S2 _ _ h) (lw_S q2307 q2308 q124 q2309) (by decide +kernel) ⟨by rw [hRf]; exact Nat.le_of_ble_eq_true rfl, by rw [hRl]; exact Nat.le_of_ble_eq_true rfl⟩ rfl rfl (gle gc_0 (by decide))) ?_
    refine g_iconst (v := (1 : Int32)) C dX6_range_42 rfl ?_
    refine g_istore_n C dX6_range_43 (by decide) rfl ?_
    exact g_sub [2, 3, 1, 0] rfl (wfX6_range_l44 C hRf hRl gFU a0 a1 (0 : Int32) (1 : Int32) S6 hF)
  · refine g_iconst (v := (0 : Int32)) C dX6_range_27 rfl ?_
    cases hF
    exact g_iret C dX6_range_28 rfl rfl
theorem mX6_range {l : Launch} {D : gD} {K : gK} (hl : l.stackTraces = false) : ∀ (p0 : Option Nat) (p1 : Int32) (S : gS) (r : Int32) (S1 : gS), fX6_range p0 p1 S = some (r, S1) → gMet l D K yX6_range (ws_ yX6_range cX6_range 5 (Option.some Jvm.ClassFile.FieldType.int)) 9 285 [va_rf p0, .int p1] S (.inl (some (.int r))) S1 := by
  intro p0 p1 S r S1 hF
  unfold fX6_range at hF
  refine gMet.of hl (by decide +kernel) rfl (gle (lgs_r (lgs_i lgs_0)) (by decide)) (fun p e s m below meth c R hRf hRl C _ => ?_)
  generalize hargs : ([va_rf p0, .int p1] : List Value).toArray = args at C ⊢
  generalize hu0 : S.2.2.1 = u0 at C ⊢
  rw [show lv_args 0 [va_rf p0, .int p1] = [(0, va_rf p0), (1, .int p1)] from (lva_r rfl (lva_i rfl lva_0))]
  refine g_aload_n C 0 dX6_range_0 rfl ?_
  refine g_iconst (v := (0 : Int32)) C dX6_range_1 rfl ?_
  refine g_put C dX6_range_2 fd_44 (Or.inl q2028) (Or.inl rfl) pf_0 rfl rfl hF (fun S1 hF => ?_)
  refine g_aload_n C 0 dX6_range_5 rfl ?_
  refine g_aload_n C 0 dX6_range_6 rfl ?_
  refine g_iload_n C 1 dX6_range_7 rfl ?_
  obtain ⟨x2, h, hF⟩ := oB hF
  obtain ⟨hi, h⟩ := gV_some h
  refine g_after (g_runV (n := 1) C dX6_range_8 rfl hi (mX6_isSinger C.2.2.2.2.2.2.2.2.2.2.2.1 p0 p1 S1 _ h) (lw_V q2386 q2388 qs82 q124 q2389) (by decide +kernel) ⟨by rw [hRf]; exact Nat.le_of_ble_eq_true rfl, by rw [hRl]; exact Nat.le_of_ble_eq_true rfl⟩ rfl rfl (gle (gc_r gc_0) (by decide))) ?_
  refine g_if_ne C 18 dX6_range_11 rfl hF (fun c hF => ?_) (fun c hF => ?_)
  · refine g_iconst (v := (0 : Int32)) C dX6_range_18 rfl ?_
    exact g_sub [0, 1] rfl (wfX6_range_j19 C hRf hRl p0 p1 (0 : Int32) p0 S1 hF)
  · refine g_iconst (v := (1 : Int32)) C dX6_range_14 rfl ?_
    refine g_goto C 19 dX6_range_15 rfl ?_
    exact g_sub [0, 1] rfl (wfX6_range_j19 C hRf hRl p0 p1 (1 : Int32) p0 S1 hF)
/-! VowelChoirModel.hasBy(IIII)I -/
def fX6_hasBy (p0 : Int32) (p1 : Int32) (p2 : Int32) (p3 : Int32) : Int32 :=
  (if p0 = 0 then
  (if p1 = 0 then
  p2
  else
  (0 : Int32))
  else
  (if p1 = 0 then
  p2 + p3
  else
  -p3))
theorem mX6_hasBy {l : Launch} {D : gD} {K : gK} (hl : l.stackTraces = false) : ∀ (p0 : Int32) (p1 : Int32) (p2 : Int32) (p3 : Int32) (S : gS) (r : Int32), fX6_hasBy p0 p1 p2 p3 = r → gMet l D K yX6_hasBy (ws_ yX6_hasBy cX6_hasBy 4 (Option.some Jvm.ClassFile.FieldType.int)) 1 100 [.int p0, .int p1, .int p2, .int p3] S (.inl (some (.int r))) S := by
  intro p0 p1 p2 p3 S r hF
  unfold fX6_hasBy at hF
  refine gMet.of hl (by decide +kernel) rfl (gle (lgs_i (lgs_i (lgs_i (lgs_i lgs_0)))) (by decide)) (fun p e s m below meth c R hRf hRl C _ => ?_)
  generalize hargs : ([.int p0, .int p1, .int p2, .int p3] : List Value).toArray = args at C ⊢
  generalize hu0 : S.2.2.1 = u0 at C ⊢
  rw [show lv_args 0 [.int p0, .int p1, .int p2, .int p3] = [(0, .int p0), (1, .int p1), (2, .int p2), (3, .int p3)] from (lva_i rfl (lva_i rfl (lva_i rfl (lva_i rfl lva_0))))]
  refine g_iload_n C 0 dX6_hasBy_0 rfl ?_
  refine g_if_ne C 16 dX6_hasBy_1 rfl hF (fun c hF => ?_) (fun c hF => ?_)
  · refine g_iload_n C 1 dX6_hasBy_16 rfl ?_
    refine g_if_ne C 26 dX6_hasBy_17 rfl hF (fun c hF => ?_) (fun c hF => ?_)
    · refine g_iload_n C 3 dX6_hasBy_26 rfl ?_
      refine g_ineg C dX6_hasBy_27 ?_
      subst hF
      exact g_iret C dX6_hasBy_28 rfl rfl
    · refine g_iload_n C 2 dX6_hasBy_20 rfl ?_
      refine g_iload_n C 3 dX6_hasBy_21 rfl ?_
      refine g_iadd C dX6_hasBy_22 ?_
      refine g_goto C 28 dX6_hasBy_23 rfl ?_
      subst hF
      exact g_iret C dX6_hasBy_28 rfl rfl
  · refine g_iload_n C 1 dX6_hasBy_4 rfl ?_
    refine g_if_ne C 12 dX6_hasBy_5 rfl hF (fun c hF => ?_) (fun c hF => ?_)
    · refine g_iconst (v := (0 : Int32)) C dX6_hasBy_12 rfl ?_
      refine g_goto C 28 dX6_hasBy_13 rfl ?_
      subst hF
      exact g_iret C dX6_hasBy_28 rfl rfl
    · refine g_iload_n C 2 dX6_hasBy_8 rfl ?_
      refine g_goto C 28 dX6_hasBy_9 rfl ?_
      subst hF
      exact g_iret C dX6_hasBy_28 rfl rfl
/-! VowelChoirModel.isBest(IIII)Z -/
def fX6_isBest (p0 : Int32) (p1 : Int32) (p2 : Int32) (p3 : Int32) : Int32 :=
  (if (fX6_hasBy p0 p1 p2 p3) < (fX6_hasBy ((1 : Int32) - p0) p1 p2 p3) then
  (0 : Int32)
  else
  (1 : Int32))
theorem mX6_isBest {l : Launch} {D : gD} {K : gK} (hl : l.stackTraces = false) : ∀ (p0 : Int32) (p1 : Int32) (p2 : Int32) (p3 : Int32) (S : gS) (r : Int32), fX6_isBest p0 p1 p2 p3 = r → gMet l D K yX6_isBest (ws_ yX6_isBest cX6_isBest 4 (Option.some Jvm.ClassFile.FieldType.boolean)) 2 123 [.int p0, .int p1, .int p2, .int p3] S (.inl (some (.int r))) S := by
  intro p0 p1 p2 p3 S r hF
  unfold fX6_isBest at hF
  refine gMet.of hl (by decide +kernel) rfl (gle (lgs_i (lgs_i (lgs_i (lgs_i lgs_0)))) (by decide)) (fun p e s m below meth c R hRf hRl C _ => ?_)
  generalize hargs : ([.int p0, .int p1, .int p2, .int p3] : List Value).toArray = args at C ⊢
  generalize hu0 : S.2.2.1 = u0 at C ⊢
  rw [show lv_args 0 [.int p0, .int p1, .int p2, .int p3] = [(0, .int p0), (1, .int p1), (2, .int p2), (3, .int p3)] from (lva_i rfl (lva_i rfl (lva_i rfl (lva_i rfl lva_0))))]
  refine g_iload_n C 0 dX6_isBest_0 rfl ?_
  refine g_iload_n C 1 dX6_isBest_1 rfl ?_
  refine g_iload_n C 2 dX6_isBest_2 rfl ?_
  refine g_iload_n C 3 dX6_isBest_3 rfl ?_
  refine g_after (g_runS (n := 4) C dX6_isBest_4 (mX6_hasBy C.2.2.2.2.2.2.2.2.2.2.2.1 p0 p1 p2 p3 S _ rfl) (lw_S q2503 q2504 q124 q2505) (by decide +kernel) ⟨by rw [hRf]; exact Nat.le_of_ble_eq_true rfl, by rw [hRl]; exact Nat.le_of_ble_eq_true rfl⟩ rfl rfl (gle gc_0 (by decide))) ?_
  refine g_iconst (v := (1 : Int32)) C dX6_isBest_7 rfl ?_
  refine g_iload_n C 0 dX6_isBest_8 rfl ?_
  refine g_isub C dX6_isBest_9 ?_
  refine g_iload_n C 1 dX6_isBest_10 rfl ?_
  refine g_iload_n C 2 dX6_isBest_11 rfl ?_
  refine g_iload_n C 3 dX6_isBest_12 rfl ?_
  refine g_after (g_runS (n := 4) C dX6_isBest_13 (mX6_hasBy C.2.2.2.2.2.2.2.2.2.2.2.1 ((1 : Int32) - p0) p1 p2 p3 S _ rfl) (lw_S q2503 q2504 q124 q2505) (by decide +kernel) ⟨by rw [hRf]; exact Nat.le_of_ble_eq_true rfl, by rw [hRl]; exact Nat.le_of_ble_eq_true rfl⟩ rfl rfl (gle (gc_i gc_0) (by decide))) ?_
  refine g_icmp_lt C 23 dX6_isBest_16 rfl hF (fun c hF => ?_) (fun c hF => ?_)
  · refine g_iconst (v := (0 : Int32)) C dX6_isBest_23 rfl ?_
    subst hF
    exact g_zret (ty := .boolean) C (rfl) dX6_isBest_24 rfl rfl
  · refine g_iconst (v := (1 : Int32)) C dX6_isBest_19 rfl ?_
    refine g_goto C 24 dX6_isBest_20 rfl ?_
    subst hF
    exact g_zret (ty := .boolean) C (rfl) dX6_isBest_24 rfl rfl
/-! VowelChoirModel.quarrel(III)I -/
def fX6_quarrel_j133 (k71 : (Int32) → (Int32) → (Int32) → (Int32) → (Int32) → (Int32) → (Int32) → (Int32) → gS → Option (Int32 × gS)) (k62 : (Int32) → (Int32) → (Int32) → (Int32) → (Int32) → (Int32) → (Int32) → gS → Option (Int32 × gS)) (a1 : Int32) (a2 : Int32) (a3 : Int32) (a4 : Int32) (a5 : Int32) (a7 : Int32) (a8 : Int32) (t0 : Int32) (S : gS) : Option (Int32 × gS) :=
  (if a4 = 0 then
  k71 a1 a2 a3 (a4 + (1 : Int32)) (((10 : Int32) * a7) + a8) t0 a7 (a8 + (1 : Int32)) S
  else
  k71 a1 a2 a3 (a4 + (1 : Int32)) a5 t0 a7 (a8 + (1 : Int32)) S)
def fX6_quarrel_i71 (k62 : (Int32) → (Int32) → (Int32) → (Int32) → (Int32) → (Int32) → (Int32) → gS → Option (Int32 × gS)) (ih : (Int32) → (Int32) → (Int32) → (Int32) → (Int32) → (Int32) → (Int32) → (Int32) → gS → Option (Int32 × gS)) (a1 : Int32) (a2 : Int32) (a3 : Int32) (a4 : Int32) (a5 : Int32) (a6 : Int32) (a7 : Int32) (a8 : Int32) (S : gS) : Option (Int32 × gS) :=
  (if (2 : Int32) ≤ a8 then
  k62 a1 a2 a3 a4 a5 a6 (a7 + (1 : Int32)) S
  else
  (if (fX6_isBest a7 a8 a1 a2) = 0 then
  ih a1 a2 a3 a4 a5 a6 a7 (a8 + (1 : Int32)) S
  else
  (if (fX6_isBest a8 a7 a1 a2) = 0 then
  ih a1 a2 a3 a4 a5 a6 a7 (a8 + (1 : Int32)) S
  else
  (if a4 = 0 then
  fX6_quarrel_j133 ih k62 a1 a2 a3 a4 a5 a7 a8 ((fX6_hasBy a7 a8 a1 a2) + (fX6_hasBy a8 a7 a1 a2)) S
  else
  fX6_quarrel_j133 ih k62 a1 a2 a3 a4 a5 a7 a8 a6 S))))
def fX6_quarrel_l71 (k62 : (Int32) → (Int32) → (Int32) → (Int32) → (Int32) → (Int32) → (Int32) → gS → Option (Int32 × gS)) : Nat → (Int32) → (Int32) → (Int32) → (Int32) → (Int32) → (Int32) → (Int32) → (Int32) → gS → Option (Int32 × gS)
  | 0 => fun _ _ _ _ _ _ _ _ _ => none
  | n + 1 => fun a1 a2 a3 a4 a5 a6 a7 a8 S => fX6_quarrel_i71 k62 (fX6_quarrel_l71 k62 n) a1 a2 a3 a4 a5 a6 a7 a8 S
def fX6_quarrel_i62 (ih : (Int32) → (Int32) → (Int32) → (Int32) → (Int32) → (Int32) → (Int32) → gS → Option (Int32 × gS)) (a1 : Int32) (a2 : Int32) (a3 : Int32) (a4 : Int32) (a5 : Int32) (a6 : Int32) (a7 : Int32) (S : gS) : Option (Int32 × gS) :=
  (if (2 : Int32) ≤ a7 then
  (if a3 = 0 then
  some (a4, S)
  else
  (if a3 = (1 : Int32) then
  some (a5, S)
  else
  some (a6, S)))
  else
  fX6_quarrel_l71 ih gFU a1 a2 a3 a4 a5 a6 a7 (0 : Int32) S)
def fX6_quarrel_l62 : Nat → (Int32) → (Int32) → (Int32) → (Int32) → (Int32) → (Int32) → (Int32) → gS → Option (Int32 × gS)
  | 0 => fun _ _ _ _ _ _ _ _ => none
  | n + 1 => fun a1 a2 a3 a4 a5 a6 a7 S => fX6_quarrel_i62 (fX6_quarrel_l62 n) a1 a2 a3 a4 a5 a6 a7 S
def fX6_quarrel_j40 (a1 : Int32) (a2 : Int32) (a3 : Int32) (t0 : Int32) (t1 : Option Nat) (S : gS) : Option (Int32 × gS) :=
  gB (gV [3] t1 S (fX6_bad t1 t0 (1 : Int32) (1 : Int32) S)) fun x1 S2 =>
  (if x1 = 0 then
  fX6_quarrel_l62 gFU a1 a2 a3 (0 : Int32) (-1 : Int32) (0 : Int32) (0 : Int32) S2
  else
  some ((0 : Int32), S2))
def fX6_quarrel_j35 (a1 : Int32) (a2 : Int32) (a3 : Int32) (t0 : Option Nat) (S : gS) : Option (Int32 × gS) :=
  fX6_quarrel_j40 a1 a2 a3 (1 : Int32) t0 S
def fX6_quarrel (p0 : Option Nat) (p1 : Int32) (p2 : Int32) (p3 : Int32) (S : gS) : Option (Int32 × gS) :=
  (oPut [3] 0 p0 (.int ((0 : Int32))) S).bind fun S1 =>
  (if (fX6_in p1 (0 : Int32) (99 : Int32)) = 0 then
  fX6_quarrel_j35 p1 p2 p3 p0 S1
  else
  (if (fX6_in p2 (0 : Int32) (99 : Int32)) = 0 then
  fX6_quarrel_j35 p1 p2 p3 p0 S1
  else
  (if (fX6_in p3 (0 : Int32) (2 : Int32)) = 0 then
  fX6_quarrel_j35 p1 p2 p3 p0 S1
  else
  fX6_quarrel_j40 p1 p2 p3 (0 : Int32) p0 S1)))
theorem wfX6_quarrel_j133 {r : Int32} {S1 : gS} (C : gCx p l R s m args meth c D K RX6 cX6_quarrel 9 (Option.some Jvm.ClassFile.FieldType.int) [] "quarrel" u0) (hRf : R.frames = 3) (hRl : R.locals = 146) (k71 : (Int32) → (Int32) → (Int32) → (Int32) → (Int32) → (Int32) → (Int32) → (Int32) → gS → Option (Int32 × gS)) (hk71 : ∀ (a1 : Int32) (a2 : Int32) (a3 : Int32) (a4 : Int32) (a5 : Int32) (a6 : Int32) (a7 : Int32) (a8 : Int32) (S : gS), k71 a1 a2 a3 a4 a5 a6 a7 a8 S = some (r, S1) → gW p l e R s m args below meth c D K 9 u0 (gEnd below args s D K u0 (.inl (some (.int r))) S1) S 71 [(1, .int a1), (2, .int a2), (3, .int a3), (4, .int a4), (5, .int a5), (6, .int a6), (7, .int a7), (8, .int a8)] []) (k62 : (Int32) → (Int32) → (Int32) → (Int32) → (Int32) → (Int32) → (Int32) → gS → Option (Int32 × gS)) (hk62 : ∀ (a1 : Int32) (a2 : Int32) (a3 : Int32) (a4 : Int32) (a5 : Int32) (a6 : Int32) (a7 : Int32) (S : gS), k62 a1 a2 a3 a4 a5 a6 a7 S = some (r, S1) → gW p l e R s m args below meth c D K 9 u0 (gEnd below args s D K u0 (.inl (some (.int r))) S1) S 62 [(1, .int a1), (2, .int a2), (3, .int a3), (4, .int a4), (5, .int a5), (6, .int a6), (7, .int a7)] []) : ∀ (a1 : Int32) (a2 : Int32) (a3 : Int32) (a4 : Int32) (a5 : Int32) (a7 : Int32) (a8 : Int32) (t0 : Int32) (S : gS), fX6_quarrel_j133 k71 k62 a1 a2 a3 a4 a5 a7 a8 t0 S = some (r, S1) → gW p l e R s m args below meth c D K 9 u0 (gEnd below args s D K u0 (.inl (some (.int r))) S1) S 133 [(1, .int a1), (2, .int a2), (3, .int a3), (4, .int a4), (5, .int a5), (7, .int a7), (8, .int a8)] [.int t0] := by
  intro a1 a2 a3 a4 a5 a7 a8 t0 S hF
  unfold fX6_quarrel_j133 at hF
  refine g_istore C dX6_quarrel_133 (by decide) rfl ?_
  refine g_iload C 4 dX6_quarrel_135 rfl ?_
  refine g_if_ne C 151 dX6_quarrel_137 rfl hF (fun c hF => ?_) (fun c hF => ?_)
  · refine g_iload C 5 dX6_quarrel_151 rfl ?_
    refine g_istore C dX6_quarrel_153 (by decide) rfl ?_
    refine g_iinc (v := (1 : Int32)) C 5 dX6_quarrel_155 rfl rfl (by decide) rfl ?_
    refine g_iinc (v := (1 : Int32)) C 7 dX6_quarrel_158 rfl rfl (by decide) rfl ?_
    refine g_goto C 71 dX6_quarrel_161 rfl ?_
    exact g_sub [4, 5, 6, 1, 2, 3, 7, 0] rfl (hk71 a1 a2 a3 (a4 + (1 : Int32)) a5 t0 a7 (a8 + (1 : Int32)) S hF)
  · refine g_bipush (v := (10 : Int32)) C dX6_quarrel_140 rfl ?_
    refine g_iload C 6 dX6_quarrel_142 rfl ?_
    refine g_imul C dX6_quarrel_144 ?_
    refine g_iload C 7 dX6_quarrel_145 rfl ?_
    refine g_iadd C dX6_quarrel_147 ?_
    refine g_goto C 153 dX6_quarrel_148 rfl ?_
    refine g_istore C dX6_quarrel_153 (by decide) rfl ?_
    refine g_iinc (v := (1 : Int32)) C 5 dX6_quarrel_155 rfl rfl (by decide) rfl ?_
    refine g_iinc (v := (1 : Int32)) C 7 dX6_quarrel_158 rfl rfl (by decide) rfl ?_
    refine g_goto C 71 dX6_quarrel_161 rfl ?_
    exact g_sub [4, 5, 6, 1, 2, 3, 7, 0] rfl (hk71 a1 a2 a3 (a4 + (1 : Int32)) (((10 : Int32) * a7) + a8) t0 a7 (a8 + (1 : Int32)) S hF)
theorem wfX6_quarrel_l71 {r : Int32} {S1 : gS} (C : gCx p l R s m args meth c D K RX6 cX6_quarrel 9 (Option.some Jvm.ClassFile.FieldType.int) [] "quarrel" u0) (hRf : R.frames = 3) (hRl : R.locals = 146) (k62 : (Int32) → (Int32) → (Int32) → (Int32) → (Int32) → (Int32) → (Int32) → gS → Option (Int32 × gS)) (hk62 : ∀ (a1 : Int32) (a2 : Int32) (a3 : Int32) (a4 : Int32) (a5 : Int32) (a6 : Int32) (a7 : Int32) (S : gS), k62 a1 a2 a3 a4 a5 a6 a7 S = some (r, S1) → gW p l e R s m args below meth c D K 9 u0 (gEnd below args s D K u0 (.inl (some (.int r))) S1) S 62 [(1, .int a1), (2, .int a2), (3, .int a3), (4, .int a4), (5, .int a5), (6, .int a6), (7, .int a7)] []) : ∀ (n : Nat) (a1 : Int32) (a2 : Int32) (a3 : Int32) (a4 : Int32) (a5 : Int32) (a6 : Int32) (a7 : Int32) (a8 : Int32) (S : gS), fX6_quarrel_l71 k62 n a1 a2 a3 a4 a5 a6 a7 a8 S = some (r, S1) → gW p l e R s m args below meth c D K 9 u0 (gEnd below args s D K u0 (.inl (some (.int r))) S1) S 71 [(1, .int a1), (2, .int a2), (3, .int a3), (4, .int a4), (5, .int a5), (6, .int a6), (7, .int a7), (8, .int a8)] [] := by
  intro n
  induction n with
  | zero => intro a1 a2 a3 a4 a5 a6 a7 a8 S hF; cases hF
  | succ n hih =>
    intro a1 a2 a3 a4 a5 a6 a7 a8 S hF
    have hF : fX6_quarrel_i71 k62 (fX6_quarrel_l71 k62 n) a1 a2 a3 a4 a5 a6 a7 a8 S = some (r, S1) := hF
    revert hF hih
    generalize fX6_quarrel_l71 k62 n = ih
    intro hih hF
    unfold fX6_quarrel_i71 at hF
    refine g_iload C 7 dX6_quarrel_71 rfl ?_
    refine g_iconst (v := (2 : Int32)) C dX6_quarrel_73 rfl ?_
    refine g_icmp_ge C 164 dX6_quarrel_74 rfl hF (fun c hF => ?_) (fun c hF => ?_)
    · refine g_iinc (v := (1 : Int32)) C 6 dX6_quarrel_164 rfl rfl (by decide) rfl ?_
      refine g_goto C 62 dX6_quarrel_167 rfl ?_
      exact g_sub [1, 2, 3, 4, 5, 6, 0] rfl (hk62 a1 a2 a3 a4 a5 a6 (a7 + (1 : Int32)) S hF)
    · refine g_iload C 6 dX6_quarrel_77 rfl ?_
      refine g_iload C 7 dX6_quarrel_79 rfl ?_
      refine g_iload_n C 0 dX6_quarrel_81 rfl ?_
      refine g_iload_n C 1 dX6_quarrel_82 rfl ?_
      refine g_after (g_runS (n := 4) C dX6_quarrel_83 (mX6_isBest C.2.2.2.2.2.2.2.2.2.2.2.1 a7 a8 a1 a2 S _ rfl) (lw_S q2500 q2501 q124 q2502) (by decide +kernel) ⟨by rw [hRf]; exact Nat.le_of_ble_eq_true rfl, by rw [hRl]; exact Nat.le_of_ble_eq_true rfl⟩ rfl rfl (gle gc_0 (by decide))) ?_
      refine g_if_eq C 158 dX6_quarrel_86 rfl hF (fun c hF => ?_) (fun c hF => ?_)
      · refine g_iinc (v := (1 : Int32)) C 7 dX6_quarrel_158 rfl rfl (by decide) rfl ?_
        refine g_goto C 71 dX6_quarrel_161 rfl ?_
        exact g_sub [1, 2, 3, 4, 5, 6, 7, 0] rfl (hih a1 a2 a3 a4 a5 a6 a7 (a8 + (1 : Int32)) S hF)
      · refine g_iload C 7 dX6_quarrel_89 rfl ?_
        refine g_iload C 6 dX6_quarrel_91 rfl ?_
        refine g_iload_n C 0 dX6_quarrel_93 rfl ?_
        refine g_iload_n C 1 dX6_quarrel_94 rfl ?_
        refine g_after (g_runS (n := 4) C dX6_quarrel_95 (mX6_isBest C.2.2.2.2.2.2.2.2.2.2.2.1 a8 a7 a1 a2 S _ rfl) (lw_S q2500 q2501 q124 q2502) (by decide +kernel) ⟨by rw [hRf]; exact Nat.le_of_ble_eq_true rfl, by rw [hRl]; exact Nat.le_of_ble_eq_true rfl⟩ rfl rfl (gle gc_0 (by decide))) ?_
        refine g_if_ne C 104 dX6_quarrel_98 rfl hF (fun c hF => ?_) (fun c hF => ?_)
        · refine g_iload C 3 dX6_quarrel_104 rfl ?_
          refine g_if_ne C 131 dX6_quarrel_106 rfl hF (fun c hF => ?_) (fun c hF => ?_)
          · refine g_iload C 5 dX6_quarrel_131 rfl ?_
            exact g_sub [0, 1, 2, 3, 4, 6, 7] rfl (wfX6_quarrel_j133 C hRf hRl (ih) (hih) (k62) (hk62) a1 a2 a3 a4 a5 a7 a8 a6 S hF)
          · refine g_iload C 6 dX6_quarrel_109 rfl ?_
            refine g_iload C 7 dX6_quarrel_111 rfl ?_
            refine g_iload_n C 0 dX6_quarrel_113 rfl ?_
            refine g_iload_n C 1 dX6_quarrel_114 rfl ?_
            refine g_after (g_runS (n := 4) C dX6_quarrel_115 (mX6_hasBy C.2.2.2.2.2.2.2.2.2.2.2.1 a7 a8 a1 a2 S _ rfl) (lw_S q2503 q2504 q124 q2505) (by decide +kernel) ⟨by rw [hRf]; exact Nat.le_of_ble_eq_true rfl, by rw [hRl]; exact Nat.le_of_ble_eq_true rfl⟩ rfl rfl (gle gc_0 (by decide))) ?_
            refine g_iload C 7 dX6_quarrel_118 rfl ?_
            refine g_iload C 6 dX6_quarrel_120 rfl ?_
            refine g_iload_n C 0 dX6_quarrel_122 rfl ?_
            refine g_iload_n C 1 dX6_quarrel_123 rfl ?_
            refine g_after (g_runS (n := 4) C dX6_quarrel_124 (mX6_hasBy C.2.2.2.2.2.2.2.2.2.2.2.1 a8 a7 a1 a2 S _ rfl) (lw_S q2503 q2504 q124 q2505) (by decide +kernel) ⟨by rw [hRf]; exact Nat.le_of_ble_eq_true rfl, by rw [hRl]; exact Nat.le_of_ble_eq_true rfl⟩ rfl rfl (gle (gc_i gc_0) (by decide))) ?_
            refine g_iadd C dX6_quarrel_127 ?_
            refine g_goto C 133 dX6_quarrel_128 rfl ?_
            exact g_sub [0, 1, 2, 3, 4, 6, 7] rfl (wfX6_quarrel_j133 C hRf hRl (ih) (hih) (k62) (hk62) a1 a2 a3 a4 a5 a7 a8 ((fX6_hasBy a7 a8 a1 a2) + (fX6_hasBy a8 a7 a1 a2)) S hF)
        · refine g_goto C 158 dX6_quarrel_101 rfl ?_
          refine g_iinc (v := (1 : Int32)) C 7 dX6_quarrel_158 rfl rfl (by decide) rfl ?_
          refine g_goto C 71 dX6_quarrel_161 rfl ?_
          exact g_sub [1, 2, 3, 4, 5, 6, 7, 0] rfl (hih a1 a2 a3 a4 a5 a6 a7 (a8 + (1 : Int32)) S hF)
theorem wfX6_quarrel_l62 {r : Int32} {S1 : gS} (C : gCx p l R s m args meth c D K RX6 cX6_quarrel 9 (Option.some Jvm.ClassFile.FieldType.int) [] "quarrel" u0) (hRf : R.frames = 3) (hRl : R.locals = 146) : ∀ (n : Nat) (a1 : Int32) (a2 : Int32) (a3 : Int32) (a4 : Int32) (a5 : Int32) (a6 : Int32) (a7 : Int32) (S : gS), fX6_quarrel_l62 n a1 a2 a3 a4 a5 a6 a7 S = some (r, S1) → gW p l e R s m args below meth c D K 9 u0 (gEnd below args s D K u0 (.inl (some (.int r))) S1) S 62 [(1, .int a1), (2, .int a2), (3, .int a3), (4, .int a4), (5, .int a5), (6, .int a6), (7, .int a7)] [] := by
  intro n
  induction n with
  | zero => intro a1 a2 a3 a4 a5 a6 a7 S hF; cases hF
  | succ n hih =>
    intro a1 a2 a3 a4 a5 a6 a7 S hF
    have hF : fX6_quarrel_i62 (fX6_quarrel_l62 n) a1 a2 a3 a4 a5 a6 a7 S = some (r, S1) := hF
    revert hF hih
    generalize fX6_quarrel_l62 n = ih
    intro hih hF
    unfold fX6_quarrel_i62 at hF
    refine g_iload C 6 dX6_quarrel_62 rfl ?_
    refine g_iconst (v := (2 : Int32)) C dX6_quarrel_64 rfl ?_
    refine g_icmp_ge C 170 dX6_quarrel_65 rfl hF (fun c hF => ?_) (fun c hF => ?_)
    · refine g_iload_n C 2 dX6_quarrel_170 rfl ?_
      refine g_if_ne C 179 dX6_quarrel_171 rfl hF (fun c hF => ?_) (fun c hF => ?_)
      · refine g_iload_n C 2 dX6_quarrel_179 rfl ?_
        refine g_iconst (v := (1 : Int32)) C dX6_quarrel_180 rfl ?_
        refine g_icmp_ne C 189 dX6_quarrel_181 rfl hF (fun c hF => ?_) (fun c hF => ?_)
        · refine g_iload C 5 dX6_quarrel_189 rfl ?_
          cases hF
          exact g_iret C dX6_quarrel_191 rfl rfl
        · refine g_iload C 4 dX6_quarrel_184 rfl ?_
          refine g_goto C 191 dX6_quarrel_186 rfl ?_
          cases hF
          exact g_iret C dX6_quarrel_191 rfl rfl
      · refine g_iload C 3 dX6_quarrel_174 rfl ?_
        refine g_goto C 191 dX6_quarrel_176 rfl ?_
        cases hF
        exact g_iret C dX6_quarrel_191 rfl rfl
    · refine g_iconst (v := (0 : Int32)) C dX6_quarrel_68 rfl ?_
      refine g_istore C dX6_quarrel_69 (by decide) rfl ?_
      exact g_sub [1, 2, 3, 4, 5, 6, 7, 0] rfl (wfX6_quarrel_l71 C hRf hRl (ih) (hih) gFU a1 a2 a3 a4 a5 a6 a7 (0 : Int32) S hF)
theorem wfX6_quarrel_j40 {r : Int32} {S1 : gS} (C : gCx p l R s m args meth c D K RX6 cX6_quarrel 9 (Option.some Jvm.ClassFile.FieldType.int) [] "quarrel" u0) (hRf : R.frames = 3) (hRl : R.locals = 146) : ∀ (a1 : Int32) (a2 : Int32) (a3 : Int32) (t0 : Int32) (t1 : Option Nat) (S : gS), fX6_quarrel_j40 a1 a2 a3 t0 t1 S = some (r, S1) → gW p l e R s m args below meth c D K 9 u0 (gEnd below args s D K u0 (.inl (some (.int r))) S1) S 40 [(1, .int a1), (2, .int a2), (3, .int a3)] [.int t0, va_rf t1] := by
  intro a1 a2 a3 t0 t1 S hF
  unfold fX6_quarrel_j40 at hF
  refine g_iconst (v := (1 : Int32)) C dX6_quarrel_40 rfl ?_
  refine g_iconst (v := (1 : Int32)) C dX6_quarrel_41 rfl ?_
  obtain ⟨x1, S2, h, hF⟩ := gB_some hF
  obtain ⟨hi, h⟩ := gV_some h
  refine g_after (g_runV (n := 3) C dX6_quarrel_42 rfl hi (mX6_bad C.2.2.2.2.2.2.2.2.2.2.2.1 t1 t0 (1 : Int32) (1 : Int32) S _ _ h) (lw_V q2183 q2185 qs46 q124 q2186) (by decide +kernel) ⟨by rw [hRf]; exact Nat.le_of_ble_eq_true rfl, by rw [hRl]; exact Nat.le_of_ble_eq_true rfl⟩ rfl rfl (gle gc_0 (by decide))) ?_
  refine g_if_eq C 50 dX6_quarrel_45 rfl hF (fun c hF => ?_) (fun c hF => ?_)
  · refine g_iconst (v := (0 : Int32)) C dX6_quarrel_50 rfl ?_
    refine g_istore C dX6_quarrel_51 (by decide) rfl ?_
    refine g_iconst (v := (-1 : Int32)) C dX6_quarrel_53 rfl ?_
    refine g_istore C dX6_quarrel_54 (by decide) rfl ?_
    refine g_iconst (v := (0 : Int32)) C dX6_quarrel_56 rfl ?_
    refine g_istore C dX6_quarrel_57 (by decide) rfl ?_
    refine g_iconst (v := (0 : Int32)) C dX6_quarrel_59 rfl ?_
    refine g_istore C dX6_quarrel_60 (by decide) rfl ?_
    exact g_sub [4, 5, 6, 3, 2, 1, 0] rfl (wfX6_quarrel_l62 C hRf hRl gFU a1 a2 a3 (0 : Int32) (-1 : Int32) (0 : Int32) (0 : Int32) S2 hF)
  · refine g_iconst (v := (0 : Int32)) C dX6_quarrel_48 rfl ?_
    cases hF
    exact g_iret C dX6_quarrel_49 rfl rfl
theorem wfX6_quarrel_j35 {r : Int32} {S1 : gS} (C : gCx p l R s m args meth c D K RX6 cX6_quarrel 9 (Option.some Jvm.ClassFile.FieldType.int) [] "quarrel" u0) (hRf : R.frames = 3) (hRl : R.locals = 146) : ∀ (a1 : Int32) (a2 : Int32) (a3 : Int32) (t0 : Option Nat) (S : gS), fX6_quarrel_j35 a1 a2 a3 t0 S = some (r, S1) → gW p l e R s m args below meth c D K 9 u0 (gEnd below args s D K u0 (.inl (some (.int r))) S1) S 35 [(1, .int a1), (2, .int a2), (3, .int a3)] [va_rf t0] := by
  intro a1 a2 a3 t0 S hF
  unfold fX6_quarrel_j35 at hF
  refine g_iconst (v := (1 : Int32)) C dX6_quarrel_35 rfl ?_
  refine g_goto C 40 dX6_quarrel_36 rfl ?_
  exact g_sub [0, 1, 2] rfl (wfX6_quarrel_j40 C hRf hRl a1 a2 a3 (1 : Int32) t0 S hF)
theorem mX6_quarrel {l : Launch} {D : gD} {K : gK} (hl : l.stackTraces = false) : ∀ (p0 : Option Nat) (p1 : Int32) (p2 : Int32) (p3 : Int32) (S : gS) (r : Int32) (S1 : gS), fX6_quarrel p0 p1 p2 p3 S = some (r, S1) → gMet l D K yX6_quarrel (ws_ yX6_quarrel cX6_quarrel 9 (Option.some Jvm.ClassFile.FieldType.int)) 3 146 [va_rf p0, .int p1, .int p2, .int p3] S (.inl (some (.int r))) S1 := by
  intro p0 p1 p2 p3 S r S1 hF
  unfold fX6_quarrel at hF
  refine gMet.of hl (by decide +kernel) rfl (gle (lgs_r (lgs_i (lgs_i (lgs_i lgs_0)))) (by decide)) (fun p e s m below meth c R hRf hRl C _ => ?_)
  generalize hargs : ([va_rf p0, .int p1, .int p2, .int p3] : List Value).toArray = args at C ⊢
  generalize hu0 : S.2.2.1 = u0 at C ⊢
  rw [show lv_args 0 [va_rf p0, .int p1, .int p2, .int p3] = [(0, va_rf p0), (1, .int p1), (2, .int p2), (3, .int p3)] from (lva_r rfl (lva_i rfl (lva_i rfl (lva_i rfl lva_0))))]
  refine g_aload_n C 0 dX6_quarrel_0 rfl ?_
  refine g_iconst (v := (0 : Int32)) C dX6_quarrel_1 rfl ?_
  refine g_put C dX6_quarrel_2 fd_44 (Or.inl q2028) (Or.inl rfl) pf_0 rfl rfl hF (fun S1 hF => ?_)
  refine g_aload_n C 0 dX6_quarrel_5 rfl ?_
  refine g_iload_n C 1 dX6_quarrel_6 rfl ?_
  refine g_iconst (v := (0 : Int32)) C dX6_quarrel_7 rfl ?_
  refine g_bipush (v := (99 : Int32)) C dX6_quarrel_8 rfl ?_
  refine g_after (g_runS (n := 3) C dX6_quarrel_10 (mX6_in C.2.2.2.2.2.2.2.2.2.2.2.1 p1 (0 : Int32) (99 : Int32) S1 _ rfl) (lw_S q2180 q2181 q124 q2182) (by decide +kernel) ⟨by rw [hRf]; exact Nat.le_of_ble_eq_true rfl, by rw [hRl]; exact Nat.le_of_ble_eq_true rfl⟩ rfl rfl (gle (gc_r gc_0) (by decide))) ?_
  refine g_if_eq C 35 dX6_quarrel_13 rfl hF (fun c hF => ?_) (fun c hF => ?_)
  · exact g_sub [1, 2, 3] rfl (wfX6_quarrel_j35 C hRf hRl p1 p2 p3 p0 S1 hF)
  · refine g_iload_n C 2 dX6_quarrel_16 rfl ?_
    refine g_iconst (v := (0 : Int32)) C dX6_quarrel_17 rfl ?_
    refine g_bipush (v := (99 : Int32)) C dX6_quarrel_18 rfl ?_
    refine g_after (g_runS (n := 3) C dX6_quarrel_20 (mX6_in C.2.2.2.2.2.2.2.2.2.2.2.1 p2 (0 : Int32) (99 : Int32) S1 _ rfl) (lw_S q2180 q2181 q124 q2182) (by decide +kernel) ⟨by rw [hRf]; exact Nat.le_of_ble_eq_true rfl, by rw [hRl]; exact Nat.le_of_ble_eq_true rfl⟩ rfl rfl (gle (gc_r gc_0) (by decide))) ?_
    refine g_if_eq C 35 dX6_quarrel_23 rfl hF (fun c hF => ?_) (fun c hF => ?_)
    · exact g_sub [1, 2, 3] rfl (wfX6_quarrel_j35 C hRf hRl p1 p2 p3 p0 S1 hF)
    · refine g_iload_n C 3 dX6_quarrel_26 rfl ?_
      refine g_iconst (v := (0 : Int32)) C dX6_quarrel_27 rfl ?_
      refine g_iconst (v := (2 : Int32)) C dX6_quarrel_28 rfl ?_
      refine g_after (g_runS (n := 3) C dX6_quarrel_29 (mX6_in C.2.2.2.2.2.2.2.2.2.2.2.1 p3 (0 : Int32) (2 : Int32) S1 _ rfl) (lw_S q2180 q2181 q124 q2182) (by decide +kernel) ⟨by rw [hRf]; exact Nat.le_of_ble_eq_true rfl, by rw [hRl]; exact Nat.le_of_ble_eq_true rfl⟩ rfl rfl (gle (gc_r gc_0) (by decide))) ?_
      refine g_if_ne C 39 dX6_quarrel_32 rfl hF (fun c hF => ?_) (fun c hF => ?_)
      · refine g_iconst (v := (0 : Int32)) C dX6_quarrel_39 rfl ?_
        exact g_sub [1, 2, 3] rfl (wfX6_quarrel_j40 C hRf hRl p1 p2 p3 (0 : Int32) p0 S1 hF)
      · exact g_sub [1, 2, 3] rfl (wfX6_quarrel_j35 C hRf hRl p1 p2 p3 p0 S1 hF)
/-! VowelChoirModel.enough(IIII)J -/
def fX6_enough_i212 (ih : (Int32) → (Int64) → (Int64) → (Int64) → (Int64) → gS → Option (Int64 × gS)) (a4 : Int32) (a5 : Int64) (a7 : Int64) (a9 : Int64) (a11 : Int64) (S : gS) : Option (Int64 × gS) :=
  (if (lg_cmp a11 (0 : Int64)) = 0 then
  (if a4 = 0 then
  if a9 = 0 then none else
  some (a5 / a9, S)
  else
  if a9 = 0 then none else
  some (a7 / a9, S))
  else
  if a11 = 0 then none else
  ih a4 a5 a7 a11 (a9 - a9 / a11 * a11) S)
def fX6_enough_l212 : Nat → (Int32) → (Int64) → (Int64) → (Int64) → (Int64) → gS → Option (Int64 × gS)
  | 0 => fun _ _ _ _ _ _ => none
  | n + 1 => fun a4 a5 a7 a9 a11 S => fX6_enough_i212 (fX6_enough_l212 n) a4 a5 a7 a9 a11 S
def fX6_enough_i179 (ih : (Option Nat) → (Int32) → (Int64) → (Int64) → (Int32) → gS → Option (Int64 × gS)) (a0 : Option Nat) (a4 : Int32) (a5 : Int64) (a7 : Int64) (a9 : Int32) (S : gS) : Option (Int64 × gS) :=
  (if (14 : Int32) ≤ a9 then
  fX6_enough_l212 gFU a4 a5 a7 a7 a5 S
  else
  (oGetR [3] 44 a0 S).bind fun x1 =>
  (oLdL x1 a9 S).bind fun x2 =>
  ih a0 a4 (a5 + x2) a7 (a9 + (1 : Int32)) S)
def fX6_enough_l179 : Nat → (Option Nat) → (Int32) → (Int64) → (Int64) → (Int32) → gS → Option (Int64 × gS)
  | 0 => fun _ _ _ _ _ _ => none
  | n + 1 => fun a0 a4 a5 a7 a9 S => fX6_enough_i179 (fX6_enough_l179 n) a0 a4 a5 a7 a9 S
def fX6_enough_i107 (k97 : (Option Nat) → (Int32) → (Int32) → (Int32) → (Int32) → (Int32) → gS → Option (Int64 × gS)) (ih : (Option Nat) → (Int32) → (Int32) → (Int32) → (Int32) → (Int32) → (Int32) → gS → Option (Int64 × gS)) (a0 : Option Nat) (a1 : Int32) (a2 : Int32) (a3 : Int32) (a4 : Int32) (a5 : Int32) (a6 : Int32) (S : gS) : Option (Int64 × gS) :=
  (if a6 < 0 then
  k97 a0 a1 a2 a3 a4 (a5 + (1 : Int32)) S
  else
  (oGetR [3] 44 a0 S).bind fun x1 =>
  (oGetR [3] 44 a0 S).bind fun x2 =>
  (oLdL x2 a6 S).bind fun x3 =>
  (if a6 ≤ 0 then
  (oStL x1 a6 ((x3 * a3.toInt64) + (0 : Int64)) S).bind fun S4 =>
  ih a0 a1 a2 a3 a4 a5 (a6 + (-1 : Int32)) S4
  else
  (oGetR [3] 44 a0 S).bind fun x5 =>
  (oLdL x5 (a6 - (1 : Int32)) S).bind fun x6 =>
  (oStL x1 a6 ((x3 * a3.toInt64) + (x6 * (((16 : Int32) - a3).toInt64))) S).bind fun S7 =>
  ih a0 a1 a2 a3 a4 a5 (a6 + (-1 : Int32)) S7))
def fX6_enough_l107 (k97 : (Option Nat) → (Int32) → (Int32) → (Int32) → (Int32) → (Int32) → gS → Option (Int64 × gS)) : Nat → (Option Nat) → (Int32) → (Int32) → (Int32) → (Int32) → (Int32) → (Int32) → gS → Option (Int64 × gS)
  | 0 => fun _ _ _ _ _ _ _ _ => none
  | n + 1 => fun a0 a1 a2 a3 a4 a5 a6 S => fX6_enough_i107 k97 (fX6_enough_l107 k97 n) a0 a1 a2 a3 a4 a5 a6 S
def fX6_enough_i97 (ih : (Option Nat) → (Int32) → (Int32) → (Int32) → (Int32) → (Int32) → gS → Option (Int64 × gS)) (a0 : Option Nat) (a1 : Int32) (a2 : Int32) (a3 : Int32) (a4 : Int32) (a5 : Int32) (S : gS) : Option (Int64 × gS) :=
  (if a1 ≤ a5 then
  fX6_enough_l179 gFU a0 a4 (0 : Int64) ((1 : Int64) <<< (((4 : Int32) * a1).toInt64 &&& 63)) a2 S
  else
  fX6_enough_l107 ih gFU a0 a1 a2 a3 a4 a5 (13 : Int32) S)
def fX6_enough_l97 : Nat → (Option Nat) → (Int32) → (Int32) → (Int32) → (Int32) → (Int32) → gS → Option (Int64 × gS)
  | 0 => fun _ _ _ _ _ _ _ => none
  | n + 1 => fun a0 a1 a2 a3 a4 a5 S => fX6_enough_i97 (fX6_enough_l97 n) a0 a1 a2 a3 a4 a5 S
def fX6_enough_i64 (ih : (Option Nat) → (Int32) → (Int32) → (Int32) → (Int32) → (Int32) → gS → Option (Int64 × gS)) (a0 : Option Nat) (a1 : Int32) (a2 : Int32) (a3 : Int32) (a4 : Int32) (a5 : Int32) (S : gS) : Option (Int64 × gS) :=
  (if (14 : Int32) ≤ a5 then
  fX6_enough_l97 gFU a0 a1 a2 a3 a4 (0 : Int32) S
  else
  (oGetR [3] 44 a0 S).bind fun x1 =>
  (if a5 = 0 then
  (oStL x1 a5 (1 : Int64) S).bind fun S3 =>
  ih a0 a1 a2 a3 a4 (a5 + (1 : Int32)) S3
  else
  (oStL x1 a5 (0 : Int64) S).bind fun S2 =>
  ih a0 a1 a2 a3 a4 (a5 + (1 : Int32)) S2))
def fX6_enough_l64 : Nat → (Option Nat) → (Int32) → (Int32) → (Int32) → (Int32) → (Int32) → gS → Option (Int64 × gS)
  | 0 => fun _ _ _ _ _ _ _ => none
  | n + 1 => fun a0 a1 a2 a3 a4 a5 S => fX6_enough_i64 (fX6_enough_l64 n) a0 a1 a2 a3 a4 a5 S
def fX6_enough_j51 (a0 : Option Nat) (a1 : Int32) (a2 : Int32) (a3 : Int32) (a4 : Int32) (t0 : Int32) (t1 : Option Nat) (S : gS) : Option (Int64 × gS) :=
  gB (gV [3] t1 S (fX6_bad t1 t0 (1 : Int32) (1 : Int32) S)) fun x1 S2 =>
  (if x1 = 0 then
  fX6_enough_l64 gFU a0 a1 a2 a3 a4 (0 : Int32) S2
  else
  some ((0 : Int64), S2))
def fX6_enough_j46 (a0 : Option Nat) (a1 : Int32) (a2 : Int32) (a3 : Int32) (a4 : Int32) (t0 : Option Nat) (S : gS) : Option (Int64 × gS) :=
  fX6_enough_j51 a0 a1 a2 a3 a4 (1 : Int32) t0 S
def fX6_enough (p0 : Option Nat) (p1 : Int32) (p2 : Int32) (p3 : Int32) (p4 : Int32) (S : gS) : Option (Int64 × gS) :=
  (oPut [3] 0 p0 (.int ((0 : Int32))) S).bind fun S1 =>
  (if (fX6_in p1 (0 : Int32) (12 : Int32)) = 0 then
  fX6_enough_j46 p0 p1 p2 p3 p4 p0 S1
  else
  (if (fX6_in p2 (0 : Int32) (13 : Int32)) = 0 then
  fX6_enough_j46 p0 p1 p2 p3 p4 p0 S1
  else
  (if (fX6_in p3 (0 : Int32) (16 : Int32)) = 0 then
  fX6_enough_j46 p0 p1 p2 p3 p4 p0 S1
  else
  (if (fX6_in p4 (0 : Int32) (1 : Int32)) = 0 then
  fX6_enough_j46 p0 p1 p2 p3 p4 p0 S1
  else
  fX6_enough_j51 p0 p1 p2 p3 p4 (0 : Int32) p0 S1))))
theorem wfX6_enough_l212 {r : Int64} {S1 : gS} (C : gCx p l R s m args meth c D K RX6 cX6_enough 15 (Option.some Jvm.ClassFile.FieldType.long) [] "enough" u0) (hRf : R.frames = 2) (hRl : R.locals = 123) : ∀ (n : Nat) (a4 : Int32) (a5 : Int64) (a7 : Int64) (a9 : Int64) (a11 : Int64) (S : gS), fX6_enough_l212 n a4 a5 a7 a9 a11 S = some (r, S1) → gW p l e R s m args below meth c D K 15 u0 (gEnd below args s D K u0 (.inl (some (.long r))) S1) S 212 [(4, .int a4), (5, .long a5), (7, .long a7), (9, .long a9), (11, .long a11)] [] := by
  intro n
  induction n with
  | zero => intro a4 a5 a7 a9 a11 S hF; cases hF
  | succ n hih =>
    intro a4 a5 a7 a9 a11 S hF
    have hF : fX6_enough_i212 (fX6_enough_l212 n) a4 a5 a7 a9 a11 S = some (r, S1) := hF
    revert hF hih
    generalize fX6_enough_l212 n = ih
    intro hih hF
    unfold fX6_enough_i212 at hF
    refine g_lload C 4 dX6_enough_212 rfl ?_
    refine g_lconst (v := (0 : Int64)) C dX6_enough_214 rfl ?_
    refine g_lcmp C dX6_enough_215 ?_
    refine g_if_eq C 237 dX6_enough_216 rfl hF (fun c hF => ?_) (fun c hF => ?_)
    · refine g_iload C 0 dX6_enough_237 rfl ?_
      refine g_if_ne C 250 dX6_enough_239 rfl hF (fun c hF => ?_) (fun c hF => ?_)
      · refine g_lload C 2 dX6_enough_250 rfl ?_
        refine g_lload C 3 dX6_enough_252 rfl ?_
        refine g_ldiv C dX6_enough_254 hF (fun hF => ?_)
        cases hF
        exact g_lret C dX6_enough_255 rfl rfl
      · refine g_lload C 1 dX6_enough_242 rfl ?_
        refine g_lload C 3 dX6_enough_244 rfl ?_
        refine g_ldiv C dX6_enough_246 hF (fun hF => ?_)
        refine g_goto C 255 dX6_enough_247 rfl ?_
        cases hF
        exact g_lret C dX6_enough_255 rfl rfl
    · refine g_lload C 3 dX6_enough_219 rfl ?_
      refine g_lload C 4 dX6_enough_221 rfl ?_
      refine g_lrem C dX6_enough_223 hF (fun hF => ?_)
      refine g_lstore C dX6_enough_224 (by decide) rfl ?_
      refine g_lload C 5 dX6_enough_226 rfl ?_
      refine g_lstore C dX6_enough_228 (by decide) rfl ?_
      refine g_lload C 1 dX6_enough_230 rfl ?_
      refine g_lstore C dX6_enough_232 (by decide) rfl ?_
      refine g_goto C 212 dX6_enough_234 rfl ?_
      exact g_sub [3, 4, 5, 1, 0] rfl (hih a4 a5 a7 a11 (a9 - a9 / a11 * a11) S hF)
theorem wfX6_enough_l179 {r : Int64} {S1 : gS} (C : gCx p l R s m args meth c D K RX6 cX6_enough 15 (Option.some Jvm.ClassFile.FieldType.long) [] "enough" u0) (hRf : R.frames = 2) (hRl : R.locals = 123) : ∀ (n : Nat) (a0 : Option Nat) (a4 : Int32) (a5 : Int64) (a7 : Int64) (a9 : Int32) (S : gS), fX6_enough_l179 n a0 a4 a5 a7 a9 S = some (r, S1) → gW p l e R s m args below meth c D K 15 u0 (gEnd below args s D K u0 (.inl (some (.long r))) S1) S 179 [(0, va_rf a0), (4, .int a4), (5, .long a5), (7, .long a7), (9, .int a9)] [] := by
  intro n
  induction n with
  | zero => intro a0 a4 a5 a7 a9 S hF; cases hF
  | succ n hih =>
    intro a0 a4 a5 a7 a9 S hF
    have hF : fX6_enough_i179 (fX6_enough_l179 n) a0 a4 a5 a7 a9 S = some (r, S1) := hF
    revert hF hih
    generalize fX6_enough_l179 n = ih
    intro hih hF
    unfold fX6_enough_i179 at hF
    refine g_iload C 4 dX6_enough_179 rfl ?_
    refine g_bipush (v := (14 : Int32)) C dX6_enough_181 rfl ?_
    refine g_icmp_ge C 204 dX6_enough_183 rfl hF (fun c hF => ?_) (fun c hF => ?_)
    · refine g_lload C 3 dX6_enough_204 rfl ?_
      refine g_lstore C dX6_enough_206 (by decide) rfl ?_
      refine g_lload C 3 dX6_enough_208 rfl ?_
      refine g_lstore C dX6_enough_210 (by decide) rfl ?_
      exact g_sub [3, 4, 5, 1, 0] rfl (wfX6_enough_l212 C hRf hRl gFU a4 a5 a7 a7 a5 S hF)
    · refine g_lload C 2 dX6_enough_186 rfl ?_
      refine g_aload_n C 0 dX6_enough_188 rfl ?_
      refine g_getR C dX6_enough_189 fd_43 (Or.inl q2072) (Or.inl rfl) hF (fun x1 hF => ?_)
      refine g_iload C 4 dX6_enough_192 rfl ?_
      refine g_lald C dX6_enough_194 hF (fun x2 hF => ?_)
      refine g_ladd C dX6_enough_195 ?_
      refine g_lstore C dX6_enough_196 (by decide) rfl ?_
      refine g_iinc (v := (1 : Int32)) C 4 dX6_enough_198 rfl rfl (by decide) rfl ?_
      refine g_goto C 179 dX6_enough_201 rfl ?_
      exact g_sub [2, 3, 1, 4, 0] rfl (hih a0 a4 (a5 + x2) a7 (a9 + (1 : Int32)) S hF)
theorem wfX6_enough_l107 {r : Int64} {S1 : gS} (C : gCx p l R s m args meth c D K RX6 cX6_enough 15 (Option.some Jvm.ClassFile.FieldType.long) [] "enough" u0) (hRf : R.frames = 2) (hRl : R.locals = 123) (k97 : (Option Nat) → (Int32) → (Int32) → (Int32) → (Int32) → (Int32) → gS → Option (Int64 × gS)) (hk97 : ∀ (a0 : Option Nat) (a1 : Int32) (a2 : Int32) (a3 : Int32) (a4 : Int32) (a5 : Int32) (S : gS), k97 a0 a1 a2 a3 a4 a5 S = some (r, S1) → gW p l e R s m args below meth c D K 15 u0 (gEnd below args s D K u0 (.inl (some (.long r))) S1) S 97 [(0, va_rf a0), (1, .int a1), (2, .int a2), (3, .int a3), (4, .int a4), (5, .int a5)] []) : ∀ (n : Nat) (a0 : Option Nat) (a1 : Int32) (a2 : Int32) (a3 : Int32) (a4 : Int32) (a5 : Int32) (a6 : Int32) (S : gS), fX6_enough_l107 k97 n a0 a1 a2 a3 a4 a5 a6 S = some (r, S1) → gW p l e R s m args below meth c D K 15 u0 (gEnd below args s D K u0 (.inl (some (.long r))) S1) S 107 [(0, va_rf a0), (1, .int a1), (2, .int a2), (3, .int a3), (4, .int a4), (5, .int a5), (6, .int a6)] [] := by
  intro n
  induction n with
  | zero => intro a0 a1 a2 a3 a4 a5 a6 S hF; cases hF
  | succ n hih =>
    intro a0 a1 a2 a3 a4 a5 a6 S hF
    have hF : fX6_enough_i107 k97 (fX6_enough_l107 k97 n) a0 a1 a2 a3 a4 a5 a6 S = some (r, S1) := hF
    revert hF hih
    generalize fX6_enough_l107 k97 n = ih
    intro hih hF
    unfold fX6_enough_i107 at hF
    refine g_iload C 6 dX6_enough_107 rfl ?_
    refine g_if_lt C 160 dX6_enough_109 rfl hF (fun c hF => ?_) (fun c hF => ?_)
    · refine g_iinc (v := (1 : Int32)) C 5 dX6_enough_160 rfl rfl (by decide) rfl ?_
      refine g_goto C 97 dX6_enough_163 rfl ?_
      exact g_sub [1, 2, 3, 4, 5, 0] rfl (hk97 a0 a1 a2 a3 a4 (a5 + (1 : Int32)) S hF)
    · refine g_aload_n C 0 dX6_enough_112 rfl ?_
      refine g_getR C dX6_enough_113 fd_43 (Or.inl q2072) (Or.inl rfl) hF (fun x1 hF => ?_)
      refine g_iload C 6 dX6_enough_116 rfl ?_
      refine g_aload_n C 0 dX6_enough_118 rfl ?_
      refine g_getR C dX6_enough_119 fd_43 (Or.inl q2072) (Or.inl rfl) hF (fun x2 hF => ?_)
      refine g_iload C 6 dX6_enough_122 rfl ?_
      refine g_lald C dX6_enough_124 hF (fun x3 hF => ?_)
      refine g_iload_n C 3 dX6_enough_125 rfl ?_
      refine g_i2l C dX6_enough_126 ?_
      refine g_lmul C dX6_enough_127 ?_
      refine g_iload C 6 dX6_enough_128 rfl ?_
      refine g_if_le C 151 dX6_enough_130 rfl hF (fun c hF => ?_) (fun c hF => ?_)
      · refine g_lconst (v := (0 : Int64)) C dX6_enough_151 rfl ?_
        refine g_ladd C dX6_enough_152 ?_
        refine g_last C dX6_enough_153 hF (fun S4 hF => ?_)
        refine g_iinc (v := (-1 : Int32)) C 6 dX6_enough_154 rfl rfl (by decide) rfl ?_
        refine g_goto C 107 dX6_enough_157 rfl ?_
        exact g_sub [1, 2, 3, 4, 5, 6, 0] rfl (hih a0 a1 a2 a3 a4 a5 (a6 + (-1 : Int32)) S4 hF)
      · refine g_aload_n C 0 dX6_enough_133 rfl ?_
        refine g_getR C dX6_enough_134 fd_43 (Or.inl q2072) (Or.inl rfl) hF (fun x5 hF => ?_)
        refine g_iload C 6 dX6_enough_137 rfl ?_
        refine g_iconst (v := (1 : Int32)) C dX6_enough_139 rfl ?_
        refine g_isub C dX6_enough_140 ?_
        refine g_lald C dX6_enough_141 hF (fun x6 hF => ?_)
        refine g_bipush (v := (16 : Int32)) C dX6_enough_142 rfl ?_
        refine g_iload_n C 3 dX6_enough_144 rfl ?_
        refine g_isub C dX6_enough_145 ?_
        refine g_i2l C dX6_enough_146 ?_
        refine g_lmul C dX6_enough_147 ?_
        refine g_goto C 152 dX6_enough_148 rfl ?_
        refine g_ladd C dX6_enough_152 ?_
        refine g_last C dX6_enough_153 hF (fun S7 hF => ?_)
        refine g_iinc (v := (-1 : Int32)) C 6 dX6_enough_154 rfl rfl (by decide) rfl ?_
        refine g_goto C 107 dX6_enough_157 rfl ?_
        exact g_sub [1, 2, 3, 4, 5, 6, 0] rfl (hih a0 a1 a2 a3 a4 a5 (a6 + (-1 : Int32)) S7 hF)
theorem wfX6_enough_l97 {r : Int64} {S1 : gS} (C : gCx p l R s m args meth c D K RX6 cX6_enough 15 (Option.some Jvm.ClassFile.FieldType.long) [] "enough" u0) (hRf : R.frames = 2) (hRl : R.locals = 123) : ∀ (n : Nat) (a0 : Option Nat) (a1 : Int32) (a2 : Int32) (a3 : Int32) (a4 : Int32) (a5 : Int32) (S : gS), fX6_enough_l97 n a0 a1 a2 a3 a4 a5 S = some (r, S1) → gW p l e R s m args below meth c D K 15 u0 (gEnd below args s D K u0 (.inl (some (.long r))) S1) S 97 [(0, va_rf a0), (1, .int a1), (2, .int a2), (3, .int a3), (4, .int a4), (5, .int a5)] [] := by
  intro n
  induction n with
  | zero => intro a0 a1 a2 a3 a4 a5 S hF; cases hF
  | succ n hih =>
    intro a0 a1 a2 a3 a4 a5 S hF
    have hF : fX6_enough_i97 (fX6_enough_l97 n) a0 a1 a2 a3 a4 a5 S = some (r, S1) := hF
    revert hF hih
    generalize fX6_enough_l97 n = ih
    intro hih hF
    unfold fX6_enough_i97 at hF
    refine g_iload C 5 dX6_enough_97 rfl ?_
    refine g_iload_n C 1 dX6_enough_99 rfl ?_
    refine g_icmp_ge C 166 dX6_enough_100 rfl hF (fun c hF => ?_) (fun c hF => ?_)
    · refine g_lconst (v := (0 : Int64)) C dX6_enough_166 rfl ?_
      refine g_lstore C dX6_enough_167 (by decide) rfl ?_
      refine g_lconst (v := (1 : Int64)) C dX6_enough_169 rfl ?_
      refine g_iconst (v := (4 : Int32)) C dX6_enough_170 rfl ?_
      refine g_iload_n C 2 dX6_enough_171 rfl ?_
      refine g_imul C dX6_enough_172 ?_
      refine g_lshl C dX6_enough_173 ?_
      refine g_lstore C dX6_enough_174 (by decide) rfl ?_
      refine g_iload_n C 4 dX6_enough_176 rfl ?_
      refine g_istore C dX6_enough_177 (by decide) rfl ?_
      exact g_sub [3, 7, 2, 1, 0] rfl (wfX6_enough_l179 C hRf hRl gFU a0 a4 (0 : Int64) ((1 : Int64) <<< (((4 : Int32) * a1).toInt64 &&& 63)) a2 S hF)
    · refine g_bipush (v := (13 : Int32)) C dX6_enough_103 rfl ?_
      refine g_istore C dX6_enough_105 (by decide) rfl ?_
      exact g_sub [1, 2, 3, 4, 5, 6, 0] rfl (wfX6_enough_l107 C hRf hRl (ih) (hih) gFU a0 a1 a2 a3 a4 a5 (13 : Int32) S hF)
theorem wfX6_enough_l64 {r : Int64} {S1 : gS} (C : gCx p l R s m args meth c D K RX6 cX6_enough 15 (Option.some Jvm.ClassFile.FieldType.long) [] "enough" u0) (hRf : R.frames = 2) (hRl : R.locals = 123) : ∀ (n : Nat) (a0 : Option Nat) (a1 : Int32) (a2 : Int32) (a3 : Int32) (a4 : Int32) (a5 : Int32) (S : gS), fX6_enough_l64 n a0 a1 a2 a3 a4 a5 S = some (r, S1) → gW p l e R s m args below meth c D K 15 u0 (gEnd below args s D K u0 (.inl (some (.long r))) S1) S 64 [(0, va_rf a0), (1, .int a1), (2, .int a2), (3, .int a3), (4, .int a4), (5, .int a5)] [] := by
  intro n
  induction n with
  | zero => intro a0 a1 a2 a3 a4 a5 S hF; cases hF
  | succ n hih =>
    intro a0 a1 a2 a3 a4 a5 S hF
    have hF : fX6_enough_i64 (fX6_enough_l64 n) a0 a1 a2 a3 a4 a5 S = some (r, S1) := hF
    revert hF hih
    generalize fX6_enough_l64 n = ih
    intro hih hF
    unfold fX6_enough_i64 at hF
    refine g_iload C 5 dX6_enough_64 rfl ?_
    refine g_bipush (v := (14 : Int32)) C dX6_enough_66 rfl ?_
    refine g_icmp_ge C 94 dX6_enough_68 rfl hF (fun c hF => ?_) (fun c hF => ?_)
    · refine g_iconst (v := (0 : Int32)) C dX6_enough_94 rfl ?_
      refine g_istore C dX6_enough_95 (by decide) rfl ?_
      exact g_sub [1, 2, 3, 4, 5, 0] rfl (wfX6_enough_l97 C hRf hRl gFU a0 a1 a2 a3 a4 (0 : Int32) S hF)
    · refine g_aload_n C 0 dX6_enough_71 rfl ?_
      refine g_getR C dX6_enough_72 fd_43 (Or.inl q2072) (Or.inl rfl) hF (fun x1 hF => ?_)
      refine g_iload C 5 dX6_enough_75 rfl ?_
      refine g_iload C 5 dX6_enough_77 rfl ?_
      refine g_if_ne C 86 dX6_enough_79 rfl hF (fun c hF => ?_) (fun c hF => ?_)
      · refine g_lconst (v := (0 : Int64)) C dX6_enough_86 rfl ?_
        refine g_last C dX6_enough_87 hF (fun S2 hF => ?_)
        refine g_iinc (v := (1 : Int32)) C 5 dX6_enough_88 rfl rfl (by decide) rfl ?_
        refine g_goto C 64 dX6_enough_91 rfl ?_
        exact g_sub [1, 2, 3, 4, 5, 0] rfl (hih a0 a1 a2 a3 a4 (a5 + (1 : Int32)) S2 hF)
      · refine g_lconst (v := (1 : Int64)) C dX6_enough_82 rfl ?_
        refine g_goto C 87 dX6_enough_83 rfl ?_
        refine g_last C dX6_enough_87 hF (fun S3 hF => ?_)
        refine g_iinc (v := (1 : Int32)) C 5 dX6_enough_88 rfl rfl (by decide) rfl ?_
        refine g_goto C 64 dX6_enough_91 rfl ?_
        exact g_sub [1, 2, 3, 4, 5, 0] rfl (hih a0 a1 a2 a3 a4 (a5 + (1 : Int32)) S3 hF)
theorem wfX6_enough_j51 {r : Int64} {S1 : gS} (C : gCx p l R s m args meth c D K RX6 cX6_enough 15 (Option.some Jvm.ClassFile.FieldType.long) [] "enough" u0) (hRf : R.frames = 2) (hRl : R.locals = 123) : ∀ (a0 : Option Nat) (a1 : Int32) (a2 : Int32) (a3 : Int32) (a4 : Int32) (t0 : Int32) (t1 : Option Nat) (S : gS), fX6_enough_j51 a0 a1 a2 a3 a4 t0 t1 S = some (r, S1) → gW p l e R s m args below meth c D K 15 u0 (gEnd below args s D K u0 (.inl (some (.long r))) S1) S 51 [(0, va_rf a0), (1, .int a1), (2, .int a2), (3, .int a3), (4, .int a4)] [.int t0, va_rf t1] := by
  intro a0 a1 a2 a3 a4 t0 t1 S hF
  unfold fX6_enough_j51 at hF
  refine g_iconst (v := (1 : Int32)) C dX6_enough_51 rfl ?_
  refine g_iconst (v := (1 : Int32)) C dX6_enough_52 rfl ?_
  obtain ⟨x1, S2, h, hF⟩ := gB_some hF
  obtain ⟨hi, h⟩ := gV_some h
  refine g_after (g_runV (n := 3) C dX6_enough_53 rfl hi (mX6_bad C.2.2.2.2.2.2.2.2.2.2.2.1 t1 t0 (1 : Int32) (1 : Int32) S _ _ h) (lw_V q2183 q2185 qs46 q124 q2186) (by decide +kernel) ⟨by rw [hRf]; exact Nat.le_of_ble_eq_true rfl, by rw [hRl]; exact Nat.le_of_ble_eq_true rfl⟩ rfl rfl (gle gc_0 (by decide))) ?_
  refine g_if_eq C 61 dX6_enough_56 rfl hF (fun c hF => ?_) (fun c hF => ?_)
  · refine g_iconst (v := (0 : Int32)) C dX6_enough_61 rfl ?_
    refine g_istore C dX6_enough_62 (by decide) rfl ?_
    exact g_sub [1, 2, 3, 4, 5, 0] rfl (wfX6_enough_l64 C hRf hRl gFU a0 a1 a2 a3 a4 (0 : Int32) S2 hF)
  · refine g_lconst (v := (0 : Int64)) C dX6_enough_59 rfl ?_
    cases hF
    exact g_lret C dX6_enough_60 rfl rfl
theorem wfX6_enough_j46 {r : Int64} {S1 : gS} (C : gCx p l R s m args meth c D K RX6 cX6_enough 15 (Option.some Jvm.ClassFile.FieldType.long) [] "enough" u0) (hRf : R.frames = 2) (hRl : R.locals = 123) : ∀ (a0 : Option Nat) (a1 : Int32) (a2 : Int32) (a3 : Int32) (a4 : Int32) (t0 : Option Nat) (S : gS), fX6_enough_j46 a0 a1 a2 a3 a4 t0 S = some (r, S1) → gW p l e R s m args below meth c D K 15 u0 (gEnd below args s D K u0 (.inl (some (.long r))) S1) S 46 [(0, va_rf a0), (1, .int a1), (2, .int a2), (3, .int a3), (4, .int a4)] [va_rf t0] := by
  intro a0 a1 a2 a3 a4 t0 S hF
  unfold fX6_enough_j46 at hF
  refine g_iconst (v := (1 : Int32)) C dX6_enough_46 rfl ?_
  refine g_goto C 51 dX6_enough_47 rfl ?_
  exact g_sub [0, 1, 2, 3, 4] rfl (wfX6_enough_j51 C hRf hRl a0 a1 a2 a3 a4 (1 : Int32) t0 S hF)
theorem mX6_enough {l : Launch} {D : gD} {K : gK} (hl : l.stackTraces = false) : ∀ (p0 : Option Nat) (p1 : Int32) (p2 : Int32) (p3 : Int32) (p4 : Int32) (S : gS) (r : Int64) (S1 : gS), fX6_enough p0 p1 p2 p3 p4 S = some (r, S1) → gMet l D K yX6_enough (ws_ yX6_enough cX6_enough 15 (Option.some Jvm.ClassFile.FieldType.long)) 2 123 [va_rf p0, .int p1, .int p2, .int p3, .int p4] S (.inl (some (.long r))) S1 := by
  intro p0 p1 p2 p3 p4 S r S1 hF
  unfold fX6_enough at hF
  refine gMet.of hl (by decide +kernel) rfl (gle (lgs_r (lgs_i (lgs_i (lgs_i (lgs_i lgs_0))))) (by decide)) (fun p e s m below meth c R hRf hRl C _ => ?_)
  generalize hargs : ([va_rf p0, .int p1, .int p2, .int p3, .int p4] : List Value).toArray = args at C ⊢
  generalize hu0 : S.2.2.1 = u0 at C ⊢
  rw [show lv_args 0 [va_rf p0, .int p1, .int p2, .int p3, .int p4] = [(0, va_rf p0), (1, .int p1), (2, .int p2), (3, .int p3), (4, .int p4)] from (lva_r rfl (lva_i rfl (lva_i rfl (lva_i rfl (lva_i rfl lva_0)))))]
  refine g_aload_n C 0 dX6_enough_0 rfl ?_
  refine g_iconst (v := (0 : Int32)) C dX6_enough_1 rfl ?_
  refine g_put C dX6_enough_2 fd_44 (Or.inl q2028) (Or.inl rfl) pf_0 rfl rfl hF (fun S1 hF => ?_)
  refine g_aload_n C 0 dX6_enough_5 rfl ?_
  refine g_iload_n C 1 dX6_enough_6 rfl ?_
  refine g_iconst (v := (0 : Int32)) C dX6_enough_7 rfl ?_
  refine g_bipush (v := (12 : Int32)) C dX6_enough_8 rfl ?_
  refine g_after (g_runS (n := 3) C dX6_enough_10 (mX6_in C.2.2.2.2.2.2.2.2.2.2.2.1 p1 (0 : Int32) (12 : Int32) S1 _ rfl) (lw_S q2180 q2181 q124 q2182) (by decide +kernel) ⟨by rw [hRf]; exact Nat.le_of_ble_eq_true rfl, by rw [hRl]; exact Nat.le_of_ble_eq_true rfl⟩ rfl rfl (gle (gc_r gc_0) (by decide))) ?_
  refine g_if_eq C 46 dX6_enough_13 rfl hF (fun c hF => ?_) (fun c hF => ?_)
  · exact g_sub [0, 1, 2, 3, 4] rfl (wfX6_enough_j46 C hRf hRl p0 p1 p2 p3 p4 p0 S1 hF)
  · refine g_iload_n C 2 dX6_enough_16 rfl ?_
    refine g_iconst (v := (0 : Int32)) C dX6_enough_17 rfl ?_
    refine g_bipush (v := (13 : Int32)) C dX6_enough_18 rfl ?_
    refine g_after (g_runS (n := 3) C dX6_enough_20 (mX6_in C.2.2.2.2.2.2.2.2.2.2.2.1 p2 (0 : Int32) (13 : Int32) S1 _ rfl) (lw_S q2180 q2181 q124 q2182) (by decide +kernel) ⟨by rw [hRf]; exact Nat.le_of_ble_eq_true rfl, by rw [hRl]; exact Nat.le_of_ble_eq_true rfl⟩ rfl rfl (gle (gc_r gc_0) (by decide))) ?_
    refine g_if_eq C 46 dX6_enough_23 rfl hF (fun c hF => ?_) (fun c hF => ?_)
    · exact g_sub [0, 1, 2, 3, 4] rfl (wfX6_enough_j46 C hRf hRl p0 p1 p2 p3 p4 p0 S1 hF)
    · refine g_iload_n C 3 dX6_enough_26 rfl ?_
      refine g_iconst (v := (0 : Int32)) C dX6_enough_27 rfl ?_
      refine g_bipush (v := (16 : Int32)) C dX6_enough_28 rfl ?_
      refine g_after (g_runS (n := 3) C dX6_enough_30 (mX6_in C.2.2.2.2.2.2.2.2.2.2.2.1 p3 (0 : Int32) (16 : Int32) S1 _ rfl) (lw_S q2180 q2181 q124 q2182) (by decide +kernel) ⟨by rw [hRf]; exact Nat.le_of_ble_eq_true rfl, by rw [hRl]; exact Nat.le_of_ble_eq_true rfl⟩ rfl rfl (gle (gc_r gc_0) (by decide))) ?_
      refine g_if_eq C 46 dX6_enough_33 rfl hF (fun c hF => ?_) (fun c hF => ?_)
      · exact g_sub [0, 1, 2, 3, 4] rfl (wfX6_enough_j46 C hRf hRl p0 p1 p2 p3 p4 p0 S1 hF)
      · refine g_iload C 4 dX6_enough_36 rfl ?_
        refine g_iconst (v := (0 : Int32)) C dX6_enough_38 rfl ?_
        refine g_iconst (v := (1 : Int32)) C dX6_enough_39 rfl ?_
        refine g_after (g_runS (n := 3) C dX6_enough_40 (mX6_in C.2.2.2.2.2.2.2.2.2.2.2.1 p4 (0 : Int32) (1 : Int32) S1 _ rfl) (lw_S q2180 q2181 q124 q2182) (by decide +kernel) ⟨by rw [hRf]; exact Nat.le_of_ble_eq_true rfl, by rw [hRl]; exact Nat.le_of_ble_eq_true rfl⟩ rfl rfl (gle (gc_r gc_0) (by decide))) ?_
        refine g_if_ne C 50 dX6_enough_43 rfl hF (fun c hF => ?_) (fun c hF => ?_)
        · refine g_iconst (v := (0 : Int32)) C dX6_enough_50 rfl ?_
          exact g_sub [0, 1, 2, 3, 4] rfl (wfX6_enough_j51 C hRf hRl p0 p1 p2 p3 p4 (0 : Int32) p0 S1 hF)
        · exact g_sub [0, 1, 2, 3, 4] rfl (wfX6_enough_j46 C hRf hRl p0 p1 p2 p3 p4 p0 S1 hF)
/-! VowelChoirModel.givenBy(II)I -/
def fX6_givenBy_i5 (ih : (Option Nat) → (Int32) → (Int32) → (Int32) → (Int32) → gS → Option Int32) (a0 : Option Nat) (a1 : Int32) (a2 : Int32) (a3 : Int32) (a4 : Int32) (S : gS) : Option Int32 :=
  (oGetR [3] 12 a0 S).bind fun x1 =>
  (oLdI 0 x1 (0 : Int32) S).bind fun x2 =>
  (if x2 ≤ a4 then
  some a3
  else
  (if (fX6_has a1 a4) = 0 then
  ih a0 a1 a2 (a3 + (0 : Int32)) (a4 + (1 : Int32)) S
  else
  (oGetR [3] 14 a0 S).bind fun x3 =>
  (oLdR 5 x3 a4 S).bind fun x4 =>
  (oLdI 0 x4 (1 : Int32) S).bind fun x5 =>
  ih a0 a1 a2 (a3 + (fX6_less a2 x5)) (a4 + (1 : Int32)) S))
def fX6_givenBy_l5 : Nat → (Option Nat) → (Int32) → (Int32) → (Int32) → (Int32) → gS → Option Int32
  | 0 => fun _ _ _ _ _ _ => none
  | n + 1 => fun a0 a1 a2 a3 a4 S => fX6_givenBy_i5 (fX6_givenBy_l5 n) a0 a1 a2 a3 a4 S
def fX6_givenBy (p0 : Option Nat) (p1 : Int32) (p2 : Int32) (S : gS) : Option Int32 :=
  fX6_givenBy_l5 gFU p0 p1 p2 (0 : Int32) (0 : Int32) S
theorem wfX6_givenBy_l5 {r : Int32} (C : gCx p l R s m args meth c D K RX6 cX6_givenBy 5 (Option.some Jvm.ClassFile.FieldType.int) [] "givenBy" u0) (hRf : R.frames = 2) (hRl : R.locals = 121) : ∀ (n : Nat) (a0 : Option Nat) (a1 : Int32) (a2 : Int32) (a3 : Int32) (a4 : Int32) (S : gS), fX6_givenBy_l5 n a0 a1 a2 a3 a4 S = some r → gW p l e R s m args below meth c D K 5 u0 (gEnd below args s D K u0 (.inl (some (.int r))) S) S 5 [(0, va_rf a0), (1, .int a1), (2, .int a2), (3, .int a3), (4, .int a4)] [] := by
  intro n
  induction n with
  | zero => intro a0 a1 a2 a3 a4 S hF; cases hF
  | succ n hih =>
    intro a0 a1 a2 a3 a4 S hF
    have hF : fX6_givenBy_i5 (fX6_givenBy_l5 n) a0 a1 a2 a3 a4 S = some r := hF
    revert hF hih
    generalize fX6_givenBy_l5 n = ih
    intro hih hF
    unfold fX6_givenBy_i5 at hF
    refine g_iload C 4 dX6_givenBy_5 rfl ?_
    refine g_aload_n C 0 dX6_givenBy_7 rfl ?_
    refine g_getR C dX6_givenBy_8 fd_15 (Or.inl q2040) (Or.inl rfl) hF (fun x1 hF => ?_)
    refine g_iconst (v := (0 : Int32)) C dX6_givenBy_11 rfl ?_
    refine g_iald C dX6_givenBy_12 hF (fun x2 hF => ?_)
    refine g_icmp_ge C 51 dX6_givenBy_13 rfl hF (fun c hF => ?_) (fun c hF => ?_)
    · refine g_iload_n C 3 dX6_givenBy_51 rfl ?_
      cases hF
      exact g_iret C dX6_givenBy_52 rfl rfl
    · refine g_iload_n C 3 dX6_givenBy_16 rfl ?_
      refine g_iload_n C 1 dX6_givenBy_17 rfl ?_
      refine g_iload C 4 dX6_givenBy_18 rfl ?_
      refine g_after (g_runS (n := 2) C dX6_givenBy_20 (mX6_has C.2.2.2.2.2.2.2.2.2.2.2.1 a1 a4 S _ rfl) (lw_S q2288 q2289 q124 q2290) (by decide +kernel) ⟨by rw [hRf]; exact Nat.le_of_ble_eq_true rfl, by rw [hRl]; exact Nat.le_of_ble_eq_true rfl⟩ rfl rfl (gle (gc_i gc_0) (by decide))) ?_
      refine g_if_eq C 42 dX6_givenBy_23 rfl hF (fun c hF => ?_) (fun c hF => ?_)
      · refine g_iconst (v := (0 : Int32)) C dX6_givenBy_42 rfl ?_
        refine g_iadd C dX6_givenBy_43 ?_
        refine g_istore_n C dX6_givenBy_44 (by decide) rfl ?_
        refine g_iinc (v := (1 : Int32)) C 4 dX6_givenBy_45 rfl rfl (by decide) rfl ?_
        refine g_goto C 5 dX6_givenBy_48 rfl ?_
        exact g_sub [2, 3, 4, 1, 0] rfl (hih a0 a1 a2 (a3 + (0 : Int32)) (a4 + (1 : Int32)) S hF)
      · refine g_iload_n C 2 dX6_givenBy_26 rfl ?_
        refine g_aload_n C 0 dX6_givenBy_27 rfl ?_
        refine g_getR C dX6_givenBy_28 fd_16 (Or.inl q2042) (Or.inl rfl) hF (fun x3 hF => ?_)
        refine g_iload C 4 dX6_givenBy_31 rfl ?_
        refine g_aald C (kd := 5) rfl dX6_givenBy_33 hF (fun x4 hF => ?_)
        refine g_iconst (v := (1 : Int32)) C dX6_givenBy_34 rfl ?_
        refine g_iald C dX6_givenBy_35 hF (fun x5 hF => ?_)
        refine g_after (g_runS (n := 2) C dX6_givenBy_36 (mX6_less C.2.2.2.2.2.2.2.2.2.2.2.1 a2 x5 S _ rfl) (lw_S q2341 q2342 q124 q2343) (by decide +kernel) ⟨by rw [hRf]; exact Nat.le_of_ble_eq_true rfl, by rw [hRl]; exact Nat.le_of_ble_eq_true rfl⟩ rfl rfl (gle (gc_i gc_0) (by decide))) ?_
        refine g_goto C 43 dX6_givenBy_39 rfl ?_
        refine g_iadd C dX6_givenBy_43 ?_
        refine g_istore_n C dX6_givenBy_44 (by decide) rfl ?_
        refine g_iinc (v := (1 : Int32)) C 4 dX6_givenBy_45 rfl rfl (by decide) rfl ?_
        refine g_goto C 5 dX6_givenBy_48 rfl ?_
        exact g_sub [2, 3, 4, 1, 0] rfl (hih a0 a1 a2 (a3 + (fX6_less a2 x5)) (a4 + (1 : Int32)) S hF)
theorem mX6_givenBy {l : Launch} {D : gD} {K : gK} (hl : l.stackTraces = false) : ∀ (p0 : Option Nat) (p1 : Int32) (p2 : Int32) (S : gS) (r : Int32), fX6_givenBy p0 p1 p2 S = some r → gMet l D K yX6_givenBy (ws_ yX6_givenBy cX6_givenBy 5 (Option.some Jvm.ClassFile.FieldType.int)) 2 121 [va_rf p0, .int p1, .int p2] S (.inl (some (.int r))) S := by
  intro p0 p1 p2 S r hF
  unfold fX6_givenBy at hF
  refine gMet.of hl (by decide +kernel) rfl (gle (lgs_r (lgs_i (lgs_i lgs_0))) (by decide)) (fun p e s m below meth c R hRf hRl C _ => ?_)
  generalize hargs : ([va_rf p0, .int p1, .int p2] : List Value).toArray = args at C ⊢
  generalize hu0 : S.2.2.1 = u0 at C ⊢
  rw [show lv_args 0 [va_rf p0, .int p1, .int p2] = [(0, va_rf p0), (1, .int p1), (2, .int p2)] from (lva_r rfl (lva_i rfl (lva_i rfl lva_0)))]
  refine g_iconst (v := (0 : Int32)) C dX6_givenBy_0 rfl ?_
  refine g_istore_n C dX6_givenBy_1 (by decide) rfl ?_
  refine g_iconst (v := (0 : Int32)) C dX6_givenBy_2 rfl ?_
  refine g_istore C dX6_givenBy_3 (by decide) rfl ?_
  exact g_sub [2, 3, 4, 1, 0] rfl (wfX6_givenBy_l5 C hRf hRl gFU p0 p1 p2 (0 : Int32) (0 : Int32) S hF)
/-! VowelChoirModel.rent(III)I -/
def fX6_rent_j95 (a0 : Option Nat) (a1 : Int32) (a2 : Int32) (a4 : Int32) (S : gS) : Option (Int32 × gS) :=
  (if (fX6_has a2 a1) = 0 then
  some ((0 : Int32), S)
  else
  (oGetR [3] 14 a0 S).bind fun x1 =>
  (oLdR 5 x1 a1 S).bind fun x2 =>
  (oLdI 0 x2 (1 : Int32) S).bind fun x3 =>
  some (fX6_less a4 x3, S))
def fX6_rent_i69 (ih : (Option Nat) → (Int32) → (Int32) → (Int32) → (Int32) → gS → Option (Int32 × gS)) (a0 : Option Nat) (a1 : Int32) (a2 : Int32) (a3 : Int32) (a4 : Int32) (S : gS) : Option (Int32 × gS) :=
  (if (60 : Int32) ≤ a4 then
  fX6_rent_j95 a0 a1 a2 a4 S
  else
  (gV [3] a0 S (fX6_givenBy a0 a2 (a4 + (1 : Int32)) S)).bind fun x1 =>
  (if a3 < x1 then
  fX6_rent_j95 a0 a1 a2 a4 S
  else
  ih a0 a1 a2 a3 (a4 + (1 : Int32)) S))
def fX6_rent_l69 : Nat → (Option Nat) → (Int32) → (Int32) → (Int32) → (Int32) → gS → Option (Int32 × gS)
  | 0 => fun _ _ _ _ _ _ => none
  | n + 1 => fun a0 a1 a2 a3 a4 S => fX6_rent_i69 (fX6_rent_l69 n) a0 a1 a2 a3 a4 S
def fX6_rent_j56 (a0 : Option Nat) (a1 : Int32) (a2 : Int32) (a3 : Int32) (t0 : Int32) (t1 : Option Nat) (S : gS) : Option (Int32 × gS) :=
  gB (gV [3] t1 S (fX6_bad t1 t0 (2 : Int32) (1 : Int32) S)) fun x1 S2 =>
  (if x1 = 0 then
  fX6_rent_l69 gFU a0 a1 a2 a3 (0 : Int32) S2
  else
  some ((0 : Int32), S2))
def fX6_rent_j51 (a0 : Option Nat) (a1 : Int32) (a2 : Int32) (a3 : Int32) (t0 : Option Nat) (S : gS) : Option (Int32 × gS) :=
  fX6_rent_j56 a0 a1 a2 a3 (1 : Int32) t0 S
def fX6_rent_j19 (a0 : Option Nat) (a1 : Int32) (a2 : Int32) (a3 : Int32) (t0 : Int32) (t1 : Option Nat) (S : gS) : Option (Int32 × gS) :=
  gB (gV [3] t1 S (fX6_bad t1 t0 (1 : Int32) (0 : Int32) S)) fun x1 S2 =>
  (if x1 = 0 then
  (gV [3] a0 S2 (fX6_everySinger a0 S2)).bind fun x3 =>
  (if (fX6_in a2 (0 : Int32) x3) = 0 then
  fX6_rent_j51 a0 a1 a2 a3 a0 S2
  else
  (if (fX6_in a3 (0 : Int32) (999 : Int32)) = 0 then
  fX6_rent_j51 a0 a1 a2 a3 a0 S2
  else
  fX6_rent_j56 a0 a1 a2 a3 (0 : Int32) a0 S2))
  else
  some ((0 : Int32), S2))
def fX6_rent (p0 : Option Nat) (p1 : Int32) (p2 : Int32) (p3 : Int32) (S : gS) : Option (Int32 × gS) :=
  (oPut [3] 0 p0 (.int ((0 : Int32))) S).bind fun S1 =>
  (gV [3] p0 S1 (fX6_isSinger p0 p1 S1)).bind fun x2 =>
  (if x2 = 0 then
  fX6_rent_j19 p0 p1 p2 p3 (1 : Int32) p0 S1
  else
  fX6_rent_j19 p0 p1 p2 p3 (0 : Int32) p0 S1)
theorem wfX6_rent_j95 {r : Int32} {S1 : gS} (C : gCx p l R s m args meth c D K RX6 cX6_rent 5 (Option.some Jvm.ClassFile.FieldType.int) [] "rent" u0) (hRf : R.frames = 3) (hRl : R.locals = 145) : ∀ (a0 : Option Nat) (a1 : Int32) (a2 : Int32) (a4 : Int32) (S : gS), fX6_rent_j95 a0 a1 a2 a4 S = some (r, S1) → gW p l e R s m args below meth c D K 5 u0 (gEnd below args s D K u0 (.inl (some (.int r))) S1) S 95 [(0, va_rf a0), (1, .int a1), (2, .int a2), (4, .int a4)] [] := by
  intro a0 a1 a2 a4 S hF
  unfold fX6_rent_j95 at hF
  refine g_iload_n C 2 dX6_rent_95 rfl ?_
  refine g_iload_n C 1 dX6_rent_96 rfl ?_
  refine g_after (g_runS (n := 2) C dX6_rent_97 (mX6_has C.2.2.2.2.2.2.2.2.2.2.2.1 a2 a1 S _ rfl) (lw_S q2288 q2289 q124 q2290) (by decide +kernel) ⟨by rw [hRf]; exact Nat.le_of_ble_eq_true rfl, by rw [hRl]; exact Nat.le_of_ble_eq_true rfl⟩ rfl rfl (gle gc_0 (by decide))) ?_
  refine g_if_eq C 119 dX6_rent_100 rfl hF (fun c hF => ?_) (fun c hF => ?_)
  · refine g_iconst (v := (0 : Int32)) C dX6_rent_119 rfl ?_
    cases hF
    exact g_iret C dX6_rent_120 rfl rfl
  · refine g_iload C 3 dX6_rent_103 rfl ?_
    refine g_aload_n C 0 dX6_rent_105 rfl ?_
    refine g_getR C dX6_rent_106 fd_16 (Or.inl q2042) (Or.inl rfl) hF (fun x1 hF => ?_)
    refine g_iload_n C 1 dX6_rent_109 rfl ?_
    refine g_aald C (kd := 5) rfl dX6_rent_110 hF (fun x2 hF => ?_)
    refine g_iconst (v := (1 : Int32)) C dX6_rent_111 rfl ?_
    refine g_iald C dX6_rent_112 hF (fun x3 hF => ?_)
    refine g_after (g_runS (n := 2) C dX6_rent_113 (mX6_less C.2.2.2.2.2.2.2.2.2.2.2.1 a4 x3 S _ rfl) (lw_S q2341 q2342 q124 q2343) (by decide +kernel) ⟨by rw [hRf]; exact Nat.le_of_ble_eq_true rfl, by rw [hRl]; exact Nat.le_of_ble_eq_true rfl⟩ rfl rfl (gle gc_0 (by decide))) ?_
    refine g_goto C 120 dX6_rent_116 rfl ?_
    cases hF
    exact g_iret C dX6_rent_120 rfl rfl
theorem wfX6_rent_l69 {r : Int32} {S1 : gS} (C : gCx p l R s m args meth c D K RX6 cX6_rent 5 (Option.some Jvm.ClassFile.FieldType.int) [] "rent" u0) (hRf : R.frames = 3) (hRl : R.locals = 145) : ∀ (n : Nat) (a0 : Option Nat) (a1 : Int32) (a2 : Int32) (a3 : Int32) (a4 : Int32) (S : gS), fX6_rent_l69 n a0 a1 a2 a3 a4 S = some (r, S1) → gW p l e R s m args below meth c D K 5 u0 (gEnd below args s D K u0 (.inl (some (.int r))) S1) S 69 [(0, va_rf a0), (1, .int a1), (2, .int a2), (3, .int a3), (4, .int a4)] [] := by
  intro n
  induction n with
  | zero => intro a0 a1 a2 a3 a4 S hF; cases hF
  | succ n hih =>
    intro a0 a1 a2 a3 a4 S hF
    have hF : fX6_rent_i69 (fX6_rent_l69 n) a0 a1 a2 a3 a4 S = some (r, S1) := hF
    revert hF hih
    generalize fX6_rent_l69 n = ih
    intro hih hF
    unfold fX6_rent_i69 at hF
    refine g_iload C 4 dX6_rent_69 rfl ?_
    refine g_bipush (v := (60 : Int32)) C dX6_rent_71 rfl ?_
    refine g_icmp_ge C 95 dX6_rent_73 rfl hF (fun c hF => ?_) (fun c hF => ?_)
    · exact g_sub [0, 1, 2, 4] rfl (wfX6_rent_j95 C hRf hRl a0 a1 a2 a4 S hF)
    · refine g_aload_n C 0 dX6_rent_76 rfl ?_
      refine g_iload_n C 2 dX6_rent_77 rfl ?_
      refine g_iload C 4 dX6_rent_78 rfl ?_
      refine g_iconst (v := (1 : Int32)) C dX6_rent_80 rfl ?_
      refine g_iadd C dX6_rent_81 ?_
      obtain ⟨x1, h, hF⟩ := oB hF
      obtain ⟨hi, h⟩ := gV_some h
      refine g_after (g_runV (n := 2) C dX6_rent_82 rfl hi (mX6_givenBy C.2.2.2.2.2.2.2.2.2.2.2.1 a0 a2 (a4 + (1 : Int32)) S _ h) (lw_V q2514 q2516 qs93 q124 q2517) (by decide +kernel) ⟨by rw [hRf]; exact Nat.le_of_ble_eq_true rfl, by rw [hRl]; exact Nat.le_of_ble_eq_true rfl⟩ rfl rfl (gle gc_0 (by decide))) ?_
      refine g_iload_n C 3 dX6_rent_85 rfl ?_
      refine g_icmp_gt C 95 dX6_rent_86 rfl hF (fun c hF => ?_) (fun c hF => ?_)
      · exact g_sub [0, 1, 2, 4] rfl (wfX6_rent_j95 C hRf hRl a0 a1 a2 a4 S hF)
      · refine g_iinc (v := (1 : Int32)) C 4 dX6_rent_89 rfl rfl (by decide) rfl ?_
        refine g_goto C 69 dX6_rent_92 rfl ?_
        exact g_sub [1, 2, 3, 4, 0] rfl (hih a0 a1 a2 a3 (a4 + (1 : Int32)) S hF)
theorem wfX6_rent_j56 {r : Int32} {S1 : gS} (C : gCx p l R s m args meth c D K RX6 cX6_rent 5 (Option.some Jvm.ClassFile.FieldType.int) [] "rent" u0) (hRf : R.frames = 3) (hRl : R.locals = 145) : ∀ (a0 : Option Nat) (a1 : Int32) (a2 : Int32) (a3 : Int32) (t0 : Int32) (t1 : Option Nat) (S : gS), fX6_rent_j56 a0 a1 a2 a3 t0 t1 S = some (r, S1) → gW p l e R s m args below meth c D K 5 u0 (gEnd below args s D K u0 (.inl (some (.int r))) S1) S 56 [(0, va_rf a0), (1, .int a1), (2, .int a2), (3, .int a3)] [.int t0, va_rf t1] := by
  intro a0 a1 a2 a3 t0 t1 S hF
  unfold fX6_rent_j56 at hF
  refine g_iconst (v := (2 : Int32)) C dX6_rent_56 rfl ?_
  refine g_iconst (v := (1 : Int32)) C dX6_rent_57 rfl ?_
  obtain ⟨x1, S2, h, hF⟩ := gB_some hF
  obtain ⟨hi, h⟩ := gV_some h
  refine g_after (g_runV (n := 3) C dX6_rent_58 rfl hi (mX6_bad C.2.2.2.2.2.2.2.2.2.2.2.1 t1 t0 (2 : Int32) (1 : Int32) S _ _ h) (lw_V q2183 q2185 qs46 q124 q2186) (by decide +kernel) ⟨by rw [hRf]; exact Nat.le_of_ble_eq_true rfl, by rw [hRl]; exact Nat.le_of_ble_eq_true rfl⟩ rfl rfl (gle gc_0 (by decide))) ?_
  refine g_if_eq C 66 dX6_rent_61 rfl hF (fun c hF => ?_) (fun c hF => ?_)
  · refine g_iconst (v := (0 : Int32)) C dX6_rent_66 rfl ?_
    refine g_istore C dX6_rent_67 (by decide) rfl ?_
    exact g_sub [1, 2, 3, 4, 0] rfl (wfX6_rent_l69 C hRf hRl gFU a0 a1 a2 a3 (0 : Int32) S2 hF)
  · refine g_iconst (v := (0 : Int32)) C dX6_rent_64 rfl ?_
    cases hF
    exact g_iret C dX6_rent_65 rfl rfl
theorem wfX6_rent_j51 {r : Int32} {S1 : gS} (C : gCx p l R s m args meth c D K RX6 cX6_rent 5 (Option.some Jvm.ClassFile.FieldType.int) [] "rent" u0) (hRf : R.frames = 3) (hRl : R.locals = 145) : ∀ (a0 : Option Nat) (a1 : Int32) (a2 : Int32) (a3 : Int32) (t0 : Option Nat) (S : gS), fX6_rent_j51 a0 a1 a2 a3 t0 S = some (r, S1) → gW p l e R s m args below meth c D K 5 u0 (gEnd below args s D K u0 (.inl (some (.int r))) S1) S 51 [(0, va_rf a0), (1, .int a1), (2, .int a2), (3, .int a3)] [va_rf t0] := by
  intro a0 a1 a2 a3 t0 S hF
  unfold fX6_rent_j51 at hF
  refine g_iconst (v := (1 : Int32)) C dX6_rent_51 rfl ?_
  refine g_goto C 56 dX6_rent_52 rfl ?_
  exact g_sub [0, 1, 2, 3] rfl (wfX6_rent_j56 C hRf hRl a0 a1 a2 a3 (1 : Int32) t0 S hF)
theorem wfX6_rent_j19 {r : Int32} {S1 : gS} (C : gCx p l R s m args meth c D K RX6 cX6_rent 5 (Option.some Jvm.ClassFile.FieldType.int) [] "rent" u0) (hRf : R.frames = 3) (hRl : R.locals = 145) : ∀ (a0 : Option Nat) (a1 : Int32) (a2 : Int32) (a3 : Int32) (t0 : Int32) (t1 : Option Nat) (S : gS), fX6_rent_j19 a0 a1 a2 a3 t0 t1 S = some (r, S1) → gW p l e R s m args below meth c D K 5 u0 (gEnd below args s D K u0 (.inl (some (.int r))) S1) S 19 [(0, va_rf a0), (1, .int a1), (2, .int a2), (3, .int a3)] [.int t0, va_rf t1] := by
  intro a0 a1 a2 a3 t0 t1 S hF
  unfold fX6_rent_j19 at hF
  refine g_iconst (v := (1 : Int32)) C dX6_rent_19 rfl ?_
  refine g_iconst (v := (0 : Int32)) C dX6_rent_20 rfl ?_
  obtain ⟨x1, S2, h, hF⟩ := gB_some hF
  obtain ⟨hi, h⟩ := gV_some h
  refine g_after (g_runV (n := 3) C dX6_rent_21 rfl hi (mX6_bad C.2.2.2.2.2.2.2.2.2.2.2.1 t1 t0 (1 : Int32) (0 : Int32) S _ _ h) (lw_V q2183 q2185 qs46 q124 q2186) (by decide +kernel) ⟨by rw [hRf]; exact Nat.le_of_ble_eq_true rfl, by rw [hRl]; exact Nat.le_of_ble_eq_true rfl⟩ rfl rfl (gle gc_0 (by decide))) ?_
  refine g_if_ne C 64 dX6_rent_24 rfl hF (fun c hF => ?_) (fun c hF => ?_)
  · refine g_iconst (v := (0 : Int32)) C dX6_rent_64 rfl ?_
    cases hF
    exact g_iret C dX6_rent_65 rfl rfl
  · refine g_aload_n C 0 dX6_rent_27 rfl ?_
    refine g_iload_n C 2 dX6_rent_28 rfl ?_
    refine g_iconst (v := (0 : Int32)) C dX6_rent_29 rfl ?_
    refine g_aload_n C 0 dX6_rent_30 rfl ?_
    obtain ⟨x3, h, hF⟩ := oB hF
    obtain ⟨hi, h⟩ := gV_some h
    refine g_after (g_runV (n := 0) C dX6_rent_31 rfl hi (mX6_everySinger C.2.2.2.2.2.2.2.2.2.2.2.1 a0 S2 _ h) (lw_V q2421 q2423 qs84 q124 q2424) (by decide +kernel) ⟨by rw [hRf]; exact Nat.le_of_ble_eq_true rfl, by rw [hRl]; exact Nat.le_of_ble_eq_true rfl⟩ rfl rfl (gle (gc_i (gc_i (gc_r gc_0))) (by decide))) ?_
    refine g_after (g_runS (n := 3) C dX6_rent_34 (mX6_in C.2.2.2.2.2.2.2.2.2.2.2.1 a2 (0 : Int32) x3 S2 _ rfl) (lw_S q2180 q2181 q124 q2182) (by decide +kernel) ⟨by rw [hRf]; exact Nat.le_of_ble_eq_true rfl, by rw [hRl]; exact Nat.le_of_ble_eq_true rfl⟩ rfl rfl (gle (gc_r gc_0) (by decide))) ?_
    refine g_if_eq C 51 dX6_rent_37 rfl hF (fun c hF => ?_) (fun c hF => ?_)
    · exact g_sub [0, 1, 2, 3] rfl (wfX6_rent_j51 C hRf hRl a0 a1 a2 a3 a0 S2 hF)
    · refine g_iload_n C 3 dX6_rent_40 rfl ?_
      refine g_iconst (v := (0 : Int32)) C dX6_rent_41 rfl ?_
      refine g_sipush (v := (999 : Int32)) C dX6_rent_42 rfl ?_
      refine g_after (g_runS (n := 3) C dX6_rent_45 (mX6_in C.2.2.2.2.2.2.2.2.2.2.2.1 a3 (0 : Int32) (999 : Int32) S2 _ rfl) (lw_S q2180 q2181 q124 q2182) (by decide +kernel) ⟨by rw [hRf]; exact Nat.le_of_ble_eq_true rfl, by rw [hRl]; exact Nat.le_of_ble_eq_true rfl⟩ rfl rfl (gle (gc_r gc_0) (by decide))) ?_
      refine g_if_ne C 55 dX6_rent_48 rfl hF (fun c hF => ?_) (fun c hF => ?_)
      · refine g_iconst (v := (0 : Int32)) C dX6_rent_55 rfl ?_
        exact g_sub [0, 1, 2, 3] rfl (wfX6_rent_j56 C hRf hRl a0 a1 a2 a3 (0 : Int32) a0 S2 hF)
      · exact g_sub [0, 1, 2, 3] rfl (wfX6_rent_j51 C hRf hRl a0 a1 a2 a3 a0 S2 hF)
theorem mX6_rent {l : Launch} {D : gD} {K : gK} (hl : l.stackTraces = false) : ∀ (p0 : Option Nat) (p1 : Int32) (p2 : Int32) (p3 : Int32) (S : gS) (r : Int32) (S1 : gS), fX6_rent p0 p1 p2 p3 S = some (r, S1) → gMet l D K yX6_rent (ws_ yX6_rent cX6_rent 5 (Option.some Jvm.ClassFile.FieldType.int)) 3 145 [va_rf p0, .int p1, .int p2, .int p3] S (.inl (some (.int r))) S1 := by
  intro p0 p1 p2 p3 S r S1 hF
  unfold fX6_rent at hF
  refine gMet.of hl (by decide +kernel) rfl (gle (lgs_r (lgs_i (lgs_i (lgs_i lgs_0)))) (by decide)) (fun p e s m below meth c R hRf hRl C _ => ?_)
  generalize hargs : ([va_rf p0, .int p1, .int p2, .int p3] : List Value).toArray = args at C ⊢
  generalize hu0 : S.2.2.1 = u0 at C ⊢
  rw [show lv_args 0 [va_rf p0, .int p1, .int p2, .int p3] = [(0, va_rf p0), (1, .int p1), (2, .int p2), (3, .int p3)] from (lva_r rfl (lva_i rfl (lva_i rfl (lva_i rfl lva_0))))]
  refine g_aload_n C 0 dX6_rent_0 rfl ?_
  refine g_iconst (v := (0 : Int32)) C dX6_rent_1 rfl ?_
  refine g_put C dX6_rent_2 fd_44 (Or.inl q2028) (Or.inl rfl) pf_0 rfl rfl hF (fun S1 hF => ?_)
  refine g_aload_n C 0 dX6_rent_5 rfl ?_
  refine g_aload_n C 0 dX6_rent_6 rfl ?_
  refine g_iload_n C 1 dX6_rent_7 rfl ?_
  obtain ⟨x2, h, hF⟩ := oB hF
  obtain ⟨hi, h⟩ := gV_some h
  refine g_after (g_runV (n := 1) C dX6_rent_8 rfl hi (mX6_isSinger C.2.2.2.2.2.2.2.2.2.2.2.1 p0 p1 S1 _ h) (lw_V q2386 q2388 qs82 q124 q2389) (by decide +kernel) ⟨by rw [hRf]; exact Nat.le_of_ble_eq_true rfl, by rw [hRl]; exact Nat.le_of_ble_eq_true rfl⟩ rfl rfl (gle (gc_r gc_0) (by decide))) ?_
  refine g_if_ne C 18 dX6_rent_11 rfl hF (fun c hF => ?_) (fun c hF => ?_)
  · refine g_iconst (v := (0 : Int32)) C dX6_rent_18 rfl ?_
    exact g_sub [0, 1, 2, 3] rfl (wfX6_rent_j19 C hRf hRl p0 p1 p2 p3 (0 : Int32) p0 S1 hF)
  · refine g_iconst (v := (1 : Int32)) C dX6_rent_14 rfl ?_
    refine g_goto C 19 dX6_rent_15 rfl ?_
    exact g_sub [0, 1, 2, 3] rfl (wfX6_rent_j19 C hRf hRl p0 p1 p2 p3 (1 : Int32) p0 S1 hF)
/-! VowelChoirModel.dearest(I)I -/
def fX6_dearest_i34 (ih : (Option Nat) → (Int32) → (Int32) → (Int32) → gS → Option (Int32 × gS)) (a0 : Option Nat) (a1 : Int32) (a2 : Int32) (a3 : Int32) (S : gS) : Option (Int32 × gS) :=
  (oGetR [3] 12 a0 S).bind fun x1 =>
  (oLdI 0 x1 (0 : Int32) S).bind fun x2 =>
  (if x2 ≤ a3 then
  (if a1 = 0 then
  some (a2, S)
  else
  (if a2 = (-1 : Int32) then
  some (a2, S)
  else
  (oGetR [3] 14 a0 S).bind fun x3 =>
  (oLdR 5 x3 a2 S).bind fun x4 =>
  (oLdI 0 x4 (1 : Int32) S).bind fun x5 =>
  some (x5, S)))
  else
  (if a2 = (-1 : Int32) then
  ih a0 a1 a3 (a3 + (1 : Int32)) S
  else
  (oGetR [3] 14 a0 S).bind fun x6 =>
  (oLdR 5 x6 a3 S).bind fun x7 =>
  (oLdI 0 x7 (1 : Int32) S).bind fun x8 =>
  (oGetR [3] 14 a0 S).bind fun x9 =>
  (oLdR 5 x9 a2 S).bind fun x10 =>
  (oLdI 0 x10 (1 : Int32) S).bind fun x11 =>
  (if x8 ≤ x11 then
  ih a0 a1 a2 (a3 + (1 : Int32)) S
  else
  ih a0 a1 a3 (a3 + (1 : Int32)) S)))
def fX6_dearest_l34 : Nat → (Option Nat) → (Int32) → (Int32) → (Int32) → gS → Option (Int32 × gS)
  | 0 => fun _ _ _ _ _ => none
  | n + 1 => fun a0 a1 a2 a3 S => fX6_dearest_i34 (fX6_dearest_l34 n) a0 a1 a2 a3 S
def fX6_dearest_j20 (a0 : Option Nat) (a1 : Int32) (t0 : Int32) (t1 : Option Nat) (S : gS) : Option (Int32 × gS) :=
  gB (gV [3] t1 S (fX6_bad t1 t0 (1 : Int32) (1 : Int32) S)) fun x1 S2 =>
  (if x1 = 0 then
  fX6_dearest_l34 gFU a0 a1 (-1 : Int32) (0 : Int32) S2
  else
  some ((0 : Int32), S2))
def fX6_dearest (p0 : Option Nat) (p1 : Int32) (S : gS) : Option (Int32 × gS) :=
  (oPut [3] 0 p0 (.int ((0 : Int32))) S).bind fun S1 =>
  (if (fX6_in p1 (0 : Int32) (1 : Int32)) = 0 then
  fX6_dearest_j20 p0 p1 (1 : Int32) p0 S1
  else
  fX6_dearest_j20 p0 p1 (0 : Int32) p0 S1)
theorem wfX6_dearest_l34 {r : Int32} {S1 : gS} (C : gCx p l R s m args meth c D K RX6 cX6_dearest 4 (Option.some Jvm.ClassFile.FieldType.int) [] "dearest" u0) (hRf : R.frames = 2) (hRl : R.locals = 123) : ∀ (n : Nat) (a0 : Option Nat) (a1 : Int32) (a2 : Int32) (a3 : Int32) (S : gS), fX6_dearest_l34 n a0 a1 a2 a3 S = some (r, S1) → gW p l e R s m args below meth c D K 4 u0 (gEnd below args s D K u0 (.inl (some (.int r))) S1) S 34 [(0, va_rf a0), (1, .int a1), (2, .int a2), (3, .int a3)] [] := by
  intro n
  induction n with
  | zero => intro a0 a1 a2 a3 S hF; cases hF
  | succ n hih =>
    intro a0 a1 a2 a3 S hF
    have hF : fX6_dearest_i34 (fX6_dearest_l34 n) a0 a1 a2 a3 S = some (r, S1) := hF
    revert hF hih
    generalize fX6_dearest_l34 n = ih
    intro hih hF
    unfold fX6_dearest_i34 at hF
    refine g_iload_n C 3 dX6_dearest_34 rfl ?_
    refine g_aload_n C 0 dX6_dearest_35 rfl ?_
    refine g_getR C dX6_dearest_36 fd_15 (Or.inl q2040) (Or.inl rfl) hF (fun x1 hF => ?_)
    refine g_iconst (v := (0 : Int32)) C dX6_dearest_39 rfl ?_
    refine g_iald C dX6_dearest_40 hF (fun x2 hF => ?_)
    refine g_icmp_ge C 80 dX6_dearest_41 rfl hF (fun c hF => ?_) (fun c hF => ?_)
    · refine g_iload_n C 1 dX6_dearest_80 rfl ?_
      refine g_if_eq C 89 dX6_dearest_81 rfl hF (fun c hF => ?_) (fun c hF => ?_)
      · refine g_iload_n C 2 dX6_dearest_89 rfl ?_
        refine g_goto C 101 dX6_dearest_90 rfl ?_
        cases hF
        exact g_iret C dX6_dearest_101 rfl rfl
      · refine g_iload_n C 2 dX6_dearest_84 rfl ?_
        refine g_iconst (v := (-1 : Int32)) C dX6_dearest_85 rfl ?_
        refine g_icmp_ne C 93 dX6_dearest_86 rfl hF (fun c hF => ?_) (fun c hF => ?_)
        · refine g_aload_n C 0 dX6_dearest_93 rfl ?_
          refine g_getR C dX6_dearest_94 fd_16 (Or.inl q2042) (Or.inl rfl) hF (fun x3 hF => ?_)
          refine g_iload_n C 2 dX6_dearest_97 rfl ?_
          refine g_aald C (kd := 5) rfl dX6_dearest_98 hF (fun x4 hF => ?_)
          refine g_iconst (v := (1 : Int32)) C dX6_dearest_99 rfl ?_
          refine g_iald C dX6_dearest_100 hF (fun x5 hF => ?_)
          cases hF
          exact g_iret C dX6_dearest_101 rfl rfl
        · refine g_iload_n C 2 dX6_dearest_89 rfl ?_
          refine g_goto C 101 dX6_dearest_90 rfl ?_
          cases hF
          exact g_iret C dX6_dearest_101 rfl rfl
    · refine g_iload_n C 2 dX6_dearest_44 rfl ?_
      refine g_iconst (v := (-1 : Int32)) C dX6_dearest_45 rfl ?_
      refine g_icmp_eq C 68 dX6_dearest_46 rfl hF (fun c hF => ?_) (fun c hF => ?_)
      · refine g_iload_n C 3 dX6_dearest_68 rfl ?_
        refine g_goto C 73 dX6_dearest_69 rfl ?_
        refine g_istore_n C dX6_dearest_73 (by decide) rfl ?_
        refine g_iinc (v := (1 : Int32)) C 3 dX6_dearest_74 rfl rfl (by decide) rfl ?_
        refine g_goto C 34 dX6_dearest_77 rfl ?_
        exact g_sub [2, 3, 1, 0] rfl (hih a0 a1 a3 (a3 + (1 : Int32)) S hF)
      · refine g_aload_n C 0 dX6_dearest_49 rfl ?_
        refine g_getR C dX6_dearest_50 fd_16 (Or.inl q2042) (Or.inl rfl) hF (fun x6 hF => ?_)
        refine g_iload_n C 3 dX6_dearest_53 rfl ?_
        refine g_aald C (kd := 5) rfl dX6_dearest_54 hF (fun x7 hF => ?_)
        refine g_iconst (v := (1 : Int32)) C dX6_dearest_55 rfl ?_
        refine g_iald C dX6_dearest_56 hF (fun x8 hF => ?_)
        refine g_aload_n C 0 dX6_dearest_57 rfl ?_
        refine g_getR C dX6_dearest_58 fd_16 (Or.inl q2042) (Or.inl rfl) hF (fun x9 hF => ?_)
        refine g_iload_n C 2 dX6_dearest_61 rfl ?_
        refine g_aald C (kd := 5) rfl dX6_dearest_62 hF (fun x10 hF => ?_)
        refine g_iconst (v := (1 : Int32)) C dX6_dearest_63 rfl ?_
        refine g_iald C dX6_dearest_64 hF (fun x11 hF => ?_)
        refine g_icmp_le C 72 dX6_dearest_65 rfl hF (fun c hF => ?_) (fun c hF => ?_)
        · refine g_iload_n C 2 dX6_dearest_72 rfl ?_
          refine g_istore_n C dX6_dearest_73 (by decide) rfl ?_
          refine g_iinc (v := (1 : Int32)) C 3 dX6_dearest_74 rfl rfl (by decide) rfl ?_
          refine g_goto C 34 dX6_dearest_77 rfl ?_
          exact g_sub [2, 3, 1, 0] rfl (hih a0 a1 a2 (a3 + (1 : Int32)) S hF)
        · refine g_iload_n C 3 dX6_dearest_68 rfl ?_
          refine g_goto C 73 dX6_dearest_69 rfl ?_
          refine g_istore_n C dX6_dearest_73 (by decide) rfl ?_
          refine g_iinc (v := (1 : Int32)) C 3 dX6_dearest_74 rfl rfl (by decide) rfl ?_
          refine g_goto C 34 dX6_dearest_77 rfl ?_
          exact g_sub [2, 3, 1, 0] rfl (hih a0 a1 a3 (a3 + (1 : Int32)) S hF)
theorem wfX6_dearest_j20 {r : Int32} {S1 : gS} (C : gCx p l R s m args meth c D K RX6 cX6_dearest 4 (Option.some Jvm.ClassFile.FieldType.int) [] "dearest" u0) (hRf : R.frames = 2) (hRl : R.locals = 123) : ∀ (a0 : Option Nat) (a1 : Int32) (t0 : Int32) (t1 : Option Nat) (S : gS), fX6_dearest_j20 a0 a1 t0 t1 S = some (r, S1) → gW p l e R s m args below meth c D K 4 u0 (gEnd below args s D K u0 (.inl (some (.int r))) S1) S 20 [(0, va_rf a0), (1, .int a1)] [.int t0, va_rf t1] := by
  intro a0 a1 t0 t1 S hF
  unfold fX6_dearest_j20 at hF
  refine g_iconst (v := (1 : Int32)) C dX6_dearest_20 rfl ?_
  refine g_iconst (v := (1 : Int32)) C dX6_dearest_21 rfl ?_
  obtain ⟨x1, S2, h, hF⟩ := gB_some hF
  obtain ⟨hi, h⟩ := gV_some h
  refine g_after (g_runV (n := 3) C dX6_dearest_22 rfl hi (mX6_bad C.2.2.2.2.2.2.2.2.2.2.2.1 t1 t0 (1 : Int32) (1 : Int32) S _ _ h) (lw_V q2183 q2185 qs46 q124 q2186) (by decide +kernel) ⟨by rw [hRf]; exact Nat.le_of_ble_eq_true rfl, by rw [hRl]; exact Nat.le_of_ble_eq_true rfl⟩ rfl rfl (gle gc_0 (by decide))) ?_
  refine g_if_eq C 30 dX6_dearest_25 rfl hF (fun c hF => ?_) (fun c hF => ?_)
  · refine g_iconst (v := (-1 : Int32)) C dX6_dearest_30 rfl ?_
    refine g_istore_n C dX6_dearest_31 (by decide) rfl ?_
    refine g_iconst (v := (0 : Int32)) C dX6_dearest_32 rfl ?_
    refine g_istore_n C dX6_dearest_33 (by decide) rfl ?_
    exact g_sub [2, 3, 1, 0] rfl (wfX6_dearest_l34 C hRf hRl gFU a0 a1 (-1 : Int32) (0 : Int32) S2 hF)
  · refine g_iconst (v := (0 : Int32)) C dX6_dearest_28 rfl ?_
    cases hF
    exact g_iret C dX6_dearest_29 rfl rfl
theorem mX6_dearest {l : Launch} {D : gD} {K : gK} (hl : l.stackTraces = false) : ∀ (p0 : Option Nat) (p1 : Int32) (S : gS) (r : Int32) (S1 : gS), fX6_dearest p0 p1 S = some (r, S1) → gMet l D K yX6_dearest (ws_ yX6_dearest cX6_dearest 4 (Option.some Jvm.ClassFile.FieldType.int)) 2 123 [va_rf p0, .int p1] S (.inl (some (.int r))) S1 := by
  intro p0 p1 S r S1 hF
  unfold fX6_dearest at hF
  refine gMet.of hl (by decide +kernel) rfl (gle (lgs_r (lgs_i lgs_0)) (by decide)) (fun p e s m below meth c R hRf hRl C _ => ?_)
  generalize hargs : ([va_rf p0, .int p1] : List Value).toArray = args at C ⊢
  generalize hu0 : S.2.2.1 = u0 at C ⊢
  rw [show lv_args 0 [va_rf p0, .int p1] = [(0, va_rf p0), (1, .int p1)] from (lva_r rfl (lva_i rfl lva_0))]
  refine g_aload_n C 0 dX6_dearest_0 rfl ?_
  refine g_iconst (v := (0 : Int32)) C dX6_dearest_1 rfl ?_
  refine g_put C dX6_dearest_2 fd_44 (Or.inl q2028) (Or.inl rfl) pf_0 rfl rfl hF (fun S1 hF => ?_)
  refine g_aload_n C 0 dX6_dearest_5 rfl ?_
  refine g_iload_n C 1 dX6_dearest_6 rfl ?_
  refine g_iconst (v := (0 : Int32)) C dX6_dearest_7 rfl ?_
  refine g_iconst (v := (1 : Int32)) C dX6_dearest_8 rfl ?_
  refine g_after (g_runS (n := 3) C dX6_dearest_9 (mX6_in C.2.2.2.2.2.2.2.2.2.2.2.1 p1 (0 : Int32) (1 : Int32) S1 _ rfl) (lw_S q2180 q2181 q124 q2182) (by decide +kernel) ⟨by rw [hRf]; exact Nat.le_of_ble_eq_true rfl, by rw [hRl]; exact Nat.le_of_ble_eq_true rfl⟩ rfl rfl (gle (gc_r gc_0) (by decide))) ?_
  refine g_if_ne C 19 dX6_dearest_12 rfl hF (fun c hF => ?_) (fun c hF => ?_)
  · refine g_iconst (v := (0 : Int32)) C dX6_dearest_19 rfl ?_
    exact g_sub [0, 1] rfl (wfX6_dearest_j20 C hRf hRl p0 p1 (0 : Int32) p0 S1 hF)
  · refine g_iconst (v := (1 : Int32)) C dX6_dearest_15 rfl ?_
    refine g_goto C 20 dX6_dearest_16 rfl ?_
    exact g_sub [0, 1] rfl (wfX6_dearest_j20 C hRf hRl p0 p1 (1 : Int32) p0 S1 hF)
/-! VowelChoirModel.voices(I)I -/
def fX6_voices_i32 (ih : (Option Nat) → (Int32) → (Int32) → (Int32) → gS → Option (Int32 × gS)) (a0 : Option Nat) (a1 : Int32) (a2 : Int32) (a3 : Int32) (S : gS) : Option (Int32 × gS) :=
  (oGetR [3] 12 a0 S).bind fun x1 =>
  (oLdI 0 x1 (0 : Int32) S).bind fun x2 =>
  (if x2 ≤ a3 then
  some (a2, S)
  else
  (oGetR [3] 14 a0 S).bind fun x3 =>
  (oLdR 5 x3 a3 S).bind fun x4 =>
  (oLdI 0 x4 (0 : Int32) S).bind fun x5 =>
  (if x5 = a1 then
  ih a0 a1 (a2 ||| ((1 : Int32) <<< (a3 &&& 31))) (a3 + (1 : Int32)) S
  else
  ih a0 a1 (a2 ||| (0 : Int32)) (a3 + (1 : Int32)) S))
def fX6_voices_l32 : Nat → (Option Nat) → (Int32) → (Int32) → (Int32) → gS → Option (Int32 × gS)
  | 0 => fun _ _ _ _ _ => none
  | n + 1 => fun a0 a1 a2 a3 S => fX6_voices_i32 (fX6_voices_l32 n) a0 a1 a2 a3 S
def fX6_voices_j18 (a0 : Option Nat) (a1 : Int32) (t0 : Int32) (t1 : Option Nat) (S : gS) : Option (Int32 × gS) :=
  gB (gV [3] t1 S (fX6_bad t1 t0 (1 : Int32) (1 : Int32) S)) fun x1 S2 =>
  (if x1 = 0 then
  fX6_voices_l32 gFU a0 a1 (0 : Int32) (0 : Int32) S2
  else
  some ((0 : Int32), S2))
def fX6_voices (p0 : Option Nat) (p1 : Int32) (S : gS) : Option (Int32 × gS) :=
  (oPut [3] 0 p0 (.int ((0 : Int32))) S).bind fun S1 =>
  (fX6_isVowel p1 S1).bind fun x2 =>
  (if x2 = 0 then
  fX6_voices_j18 p0 p1 (1 : Int32) p0 S1
  else
  fX6_voices_j18 p0 p1 (0 : Int32) p0 S1)
theorem wfX6_voices_l32 {r : Int32} {S1 : gS} (C : gCx p l R s m args meth c D K RX6 cX6_voices 4 (Option.some Jvm.ClassFile.FieldType.int) [] "voices" u0) (hRf : R.frames = 3) (hRl : R.locals = 142) : ∀ (n : Nat) (a0 : Option Nat) (a1 : Int32) (a2 : Int32) (a3 : Int32) (S : gS), fX6_voices_l32 n a0 a1 a2 a3 S = some (r, S1) → gW p l e R s m args below meth c D K 4 u0 (gEnd below args s D K u0 (.inl (some (.int r))) S1) S 32 [(0, va_rf a0), (1, .int a1), (2, .int a2), (3, .int a3)] [] := by
  intro n
  induction n with
  | zero => intro a0 a1 a2 a3 S hF; cases hF
  | succ n hih =>
    intro a0 a1 a2 a3 S hF
    have hF : fX6_voices_i32 (fX6_voices_l32 n) a0 a1 a2 a3 S = some (r, S1) := hF
    revert hF hih
    generalize fX6_voices_l32 n = ih
    intro hih hF
    unfold fX6_voices_i32 at hF
    refine g_iload_n C 3 dX6_voices_32 rfl ?_
    refine g_aload_n C 0 dX6_voices_33 rfl ?_
    refine g_getR C dX6_voices_34 fd_15 (Or.inl q2040) (Or.inl rfl) hF (fun x1 hF => ?_)
    refine g_iconst (v := (0 : Int32)) C dX6_voices_37 rfl ?_
    refine g_iald C dX6_voices_38 hF (fun x2 hF => ?_)
    refine g_icmp_ge C 70 dX6_voices_39 rfl hF (fun c hF => ?_) (fun c hF => ?_)
    · refine g_iload_n C 2 dX6_voices_70 rfl ?_
      cases hF
      exact g_iret C dX6_voices_71 rfl rfl
    · refine g_iload_n C 2 dX6_voices_42 rfl ?_
      refine g_aload_n C 0 dX6_voices_43 rfl ?_
      refine g_getR C dX6_voices_44 fd_16 (Or.inl q2042) (Or.inl rfl) hF (fun x3 hF => ?_)
      refine g_iload_n C 3 dX6_voices_47 rfl ?_
      refine g_aald C (kd := 5) rfl dX6_voices_48 hF (fun x4 hF => ?_)
      refine g_iconst (v := (0 : Int32)) C dX6_voices_49 rfl ?_
      refine g_iald C dX6_voices_50 hF (fun x5 hF => ?_)
      refine g_iload_n C 1 dX6_voices_51 rfl ?_
      refine g_icmp_ne C 61 dX6_voices_52 rfl hF (fun c hF => ?_) (fun c hF => ?_)
      · refine g_iconst (v := (0 : Int32)) C dX6_voices_61 rfl ?_
        refine g_ior C dX6_voices_62 ?_
        refine g_istore_n C dX6_voices_63 (by decide) rfl ?_
        refine g_iinc (v := (1 : Int32)) C 3 dX6_voices_64 rfl rfl (by decide) rfl ?_
        refine g_goto C 32 dX6_voices_67 rfl ?_
        exact g_sub [2, 3, 1, 0] rfl (hih a0 a1 (a2 ||| (0 : Int32)) (a3 + (1 : Int32)) S hF)
      · refine g_iconst (v := (1 : Int32)) C dX6_voices_55 rfl ?_
        refine g_iload_n C 3 dX6_voices_56 rfl ?_
        refine g_ishl C dX6_voices_57 ?_
        refine g_goto C 62 dX6_voices_58 rfl ?_
        refine g_ior C dX6_voices_62 ?_
        refine g_istore_n C dX6_voices_63 (by decide) rfl ?_
        refine g_iinc (v := (1 : Int32)) C 3 dX6_voices_64 rfl rfl (by decide) rfl ?_
        refine g_goto C 32 dX6_voices_67 rfl ?_
        exact g_sub [2, 3, 1, 0] rfl (hih a0 a1 (a2 ||| ((1 : Int32) <<< (a3 &&& 31))) (a3 + (1 : Int32)) S hF)
theorem wfX6_voices_j18 {r : Int32} {S1 : gS} (C : gCx p l R s m args meth c D K RX6 cX6_voices 4 (Option.some Jvm.ClassFile.FieldType.int) [] "voices" u0) (hRf : R.frames = 3) (hRl : R.locals = 142) : ∀ (a0 : Option Nat) (a1 : Int32) (t0 : Int32) (t1 : Option Nat) (S : gS), fX6_voices_j18 a0 a1 t0 t1 S = some (r, S1) → gW p l e R s m args below meth c D K 4 u0 (gEnd below args s D K u0 (.inl (some (.int r))) S1) S 18 [(0, va_rf a0), (1, .int a1)] [.int t0, va_rf t1] := by
  intro a0 a1 t0 t1 S hF
  unfold fX6_voices_j18 at hF
  refine g_iconst (v := (1 : Int32)) C dX6_voices_18 rfl ?_
  refine g_iconst (v := (1 : Int32)) C dX6_voices_19 rfl ?_
  obtain ⟨x1, S2, h, hF⟩ := gB_some hF
  obtain ⟨hi, h⟩ := gV_some h
  refine g_after (g_runV (n := 3) C dX6_voices_20 rfl hi (mX6_bad C.2.2.2.2.2.2.2.2.2.2.2.1 t1 t0 (1 : Int32) (1 : Int32) S _ _ h) (lw_V q2183 q2185 qs46 q124 q2186) (by decide +kernel) ⟨by rw [hRf]; exact Nat.le_of_ble_eq_true rfl, by rw [hRl]; exact Nat.le_of_ble_eq_true rfl⟩ rfl rfl (gle gc_0 (by decide))) ?_
  refine g_if_eq C 28 dX6_voices_23 rfl hF (fun c hF => ?_) (fun c hF => ?_)
  · refine g_iconst (v := (0 : Int32)) C dX6_voices_28 rfl ?_
    refine g_istore_n C dX6_voices_29 (by decide) rfl ?_
    refine g_iconst (v := (0 : Int32)) C dX6_voices_30 rfl ?_
    refine g_istore_n C dX6_voices_31 (by decide) rfl ?_
    exact g_sub [2, 3, 1, 0] rfl (wfX6_voices_l32 C hRf hRl gFU a0 a1 (0 : Int32) (0 : Int32) S2 hF)
  · refine g_iconst (v := (0 : Int32)) C dX6_voices_26 rfl ?_
    cases hF
    exact g_iret C dX6_voices_27 rfl rfl
theorem mX6_voices {l : Launch} {D : gD} {K : gK} (hl : l.stackTraces = false) : ∀ (p0 : Option Nat) (p1 : Int32) (S : gS) (r : Int32) (S1 : gS), fX6_voices p0 p1 S = some (r, S1) → gMet l D K yX6_voices (ws_ yX6_voices cX6_voices 4 (Option.some Jvm.ClassFile.FieldType.int)) 3 142 [va_rf p0, .int p1] S (.inl (some (.int r))) S1 := by
  intro p0 p1 S r S1 hF
  unfold fX6_voices at hF
  refine gMet.of hl (by decide +kernel) rfl (gle (lgs_r (lgs_i lgs_0)) (by decide)) (fun p e s m below meth c R hRf hRl C _ => ?_)
  generalize hargs : ([va_rf p0, .int p1] : List Value).toArray = args at C ⊢
  generalize hu0 : S.2.2.1 = u0 at C ⊢
  rw [show lv_args 0 [va_rf p0, .int p1] = [(0, va_rf p0), (1, .int p1)] from (lva_r rfl (lva_i rfl lva_0))]
  refine g_aload_n C 0 dX6_voices_0 rfl ?_
  refine g_iconst (v := (0 : Int32)) C dX6_voices_1 rfl ?_
  refine g_put C dX6_voices_2 fd_44 (Or.inl q2028) (Or.inl rfl) pf_0 rfl rfl hF (fun S1 hF => ?_)
  refine g_aload_n C 0 dX6_voices_5 rfl ?_
  refine g_iload_n C 1 dX6_voices_6 rfl ?_
  obtain ⟨x2, h, hF⟩ := oB hF
  refine g_after (g_runS (n := 1) C dX6_voices_7 (mX6_isVowel C.2.2.2.2.2.2.2.2.2.2.2.1 p1 S1 _ h) (lw_S q2410 q2411 q124 q2412) (by decide +kernel) ⟨by rw [hRf]; exact Nat.le_of_ble_eq_true rfl, by rw [hRl]; exact Nat.le_of_ble_eq_true rfl⟩ rfl rfl (gle (gc_r gc_0) (by decide))) ?_
  refine g_if_ne C 17 dX6_voices_10 rfl hF (fun c hF => ?_) (fun c hF => ?_)
  · refine g_iconst (v := (0 : Int32)) C dX6_voices_17 rfl ?_
    exact g_sub [0, 1] rfl (wfX6_voices_j18 C hRf hRl p0 p1 (0 : Int32) p0 S1 hF)
  · refine g_iconst (v := (1 : Int32)) C dX6_voices_13 rfl ?_
    refine g_goto C 18 dX6_voices_14 rfl ?_
    exact g_sub [0, 1] rfl (wfX6_voices_j18 C hRf hRl p0 p1 (1 : Int32) p0 S1 hF)
/-! VowelChoirModel.sounds(I)I -/
def fX6_sounds_i32 (ih : (Option Nat) → (Int32) → (Int32) → (Int32) → gS → Option (Int32 × gS)) (a0 : Option Nat) (a1 : Int32) (a2 : Int32) (a3 : Int32) (S : gS) : Option (Int32 × gS) :=
  (oGetR [3] 12 a0 S).bind fun x1 =>
  (oLdI 0 x1 (1 : Int32) S).bind fun x2 =>
  (if x2 ≤ a3 then
  some (a2, S)
  else
  (oGetR [3] 29 a0 S).bind fun x3 =>
  (oLdI 0 x3 ((35 : Int32) + a3) S).bind fun x4 =>
  (if x4 = a1 then
  ih a0 a1 (a2 ||| ((1 : Int32) <<< (a3 &&& 31))) (a3 + (1 : Int32)) S
  else
  ih a0 a1 (a2 ||| (0 : Int32)) (a3 + (1 : Int32)) S))
def fX6_sounds_l32 : Nat → (Option Nat) → (Int32) → (Int32) → (Int32) → gS → Option (Int32 × gS)
  | 0 => fun _ _ _ _ _ => none
  | n + 1 => fun a0 a1 a2 a3 S => fX6_sounds_i32 (fX6_sounds_l32 n) a0 a1 a2 a3 S
def fX6_sounds_j18 (a0 : Option Nat) (a1 : Int32) (t0 : Int32) (t1 : Option Nat) (S : gS) : Option (Int32 × gS) :=
  gB (gV [3] t1 S (fX6_bad t1 t0 (1 : Int32) (1 : Int32) S)) fun x1 S2 =>
  (if x1 = 0 then
  fX6_sounds_l32 gFU a0 a1 (0 : Int32) (0 : Int32) S2
  else
  some ((0 : Int32), S2))
def fX6_sounds (p0 : Option Nat) (p1 : Int32) (S : gS) : Option (Int32 × gS) :=
  (oPut [3] 0 p0 (.int ((0 : Int32))) S).bind fun S1 =>
  (fX6_isVowel p1 S1).bind fun x2 =>
  (if x2 = 0 then
  fX6_sounds_j18 p0 p1 (1 : Int32) p0 S1
  else
  fX6_sounds_j18 p0 p1 (0 : Int32) p0 S1)
theorem wfX6_sounds_l32 {r : Int32} {S1 : gS} (C : gCx p l R s m args meth c D K RX6 cX6_sounds 4 (Option.some Jvm.ClassFile.FieldType.int) [] "sounds" u0) (hRf : R.frames = 3) (hRl : R.locals = 142) : ∀ (n : Nat) (a0 : Option Nat) (a1 : Int32) (a2 : Int32) (a3 : Int32) (S : gS), fX6_sounds_l32 n a0 a1 a2 a3 S = some (r, S1) → gW p l e R s m args below meth c D K 4 u0 (gEnd below args s D K u0 (.inl (some (.int r))) S1) S 32 [(0, va_rf a0), (1, .int a1), (2, .int a2), (3, .int a3)] [] := by
  intro n
  induction n with
  | zero => intro a0 a1 a2 a3 S hF; cases hF
  | succ n hih =>
    intro a0 a1 a2 a3 S hF
    have hF : fX6_sounds_i32 (fX6_sounds_l32 n) a0 a1 a2 a3 S = some (r, S1) := hF
    revert hF hih
    generalize fX6_sounds_l32 n = ih
    intro hih hF
    unfold fX6_sounds_i32 at hF
    refine g_iload_n C 3 dX6_sounds_32 rfl ?_
    refine g_aload_n C 0 dX6_sounds_33 rfl ?_
    refine g_getR C dX6_sounds_34 fd_15 (Or.inl q2040) (Or.inl rfl) hF (fun x1 hF => ?_)
    refine g_iconst (v := (1 : Int32)) C dX6_sounds_37 rfl ?_
    refine g_iald C dX6_sounds_38 hF (fun x2 hF => ?_)
    refine g_icmp_ge C 71 dX6_sounds_39 rfl hF (fun c hF => ?_) (fun c hF => ?_)
    · refine g_iload_n C 2 dX6_sounds_71 rfl ?_
      cases hF
      exact g_iret C dX6_sounds_72 rfl rfl
    · refine g_iload_n C 2 dX6_sounds_42 rfl ?_
      refine g_aload_n C 0 dX6_sounds_43 rfl ?_
      refine g_getR C dX6_sounds_44 fd_22 (Or.inl q2057) (Or.inl rfl) hF (fun x3 hF => ?_)
      refine g_bipush (v := (35 : Int32)) C dX6_sounds_47 rfl ?_
      refine g_iload_n C 3 dX6_sounds_49 rfl ?_
      refine g_iadd C dX6_sounds_50 ?_
      refine g_iald C dX6_sounds_51 hF (fun x4 hF => ?_)
      refine g_iload_n C 1 dX6_sounds_52 rfl ?_
      refine g_icmp_ne C 62 dX6_sounds_53 rfl hF (fun c hF => ?_) (fun c hF => ?_)
      · refine g_iconst (v := (0 : Int32)) C dX6_sounds_62 rfl ?_
        refine g_ior C dX6_sounds_63 ?_
        refine g_istore_n C dX6_sounds_64 (by decide) rfl ?_
        refine g_iinc (v := (1 : Int32)) C 3 dX6_sounds_65 rfl rfl (by decide) rfl ?_
        refine g_goto C 32 dX6_sounds_68 rfl ?_
        exact g_sub [2, 3, 1, 0] rfl (hih a0 a1 (a2 ||| (0 : Int32)) (a3 + (1 : Int32)) S hF)
      · refine g_iconst (v := (1 : Int32)) C dX6_sounds_56 rfl ?_
        refine g_iload_n C 3 dX6_sounds_57 rfl ?_
        refine g_ishl C dX6_sounds_58 ?_
        refine g_goto C 63 dX6_sounds_59 rfl ?_
        refine g_ior C dX6_sounds_63 ?_
        refine g_istore_n C dX6_sounds_64 (by decide) rfl ?_
        refine g_iinc (v := (1 : Int32)) C 3 dX6_sounds_65 rfl rfl (by decide) rfl ?_
        refine g_goto C 32 dX6_sounds_68 rfl ?_
        exact g_sub [2, 3, 1, 0] rfl (hih a0 a1 (a2 ||| ((1 : Int32) <<< (a3 &&& 31))) (a3 + (1 : Int32)) S hF)
theorem wfX6_sounds_j18 {r : Int32} {S1 : gS} (C : gCx p l R s m args meth c D K RX6 cX6_sounds 4 (Option.some Jvm.ClassFile.FieldType.int) [] "sounds" u0) (hRf : R.frames = 3) (hRl : R.locals = 142) : ∀ (a0 : Option Nat) (a1 : Int32) (t0 : Int32) (t1 : Option Nat) (S : gS), fX6_sounds_j18 a0 a1 t0 t1 S = some (r, S1) → gW p l e R s m args below meth c D K 4 u0 (gEnd below args s D K u0 (.inl (some (.int r))) S1) S 18 [(0, va_rf a0), (1, .int a1)] [.int t0, va_rf t1] := by
  intro a0 a1 t0 t1 S hF
  unfold fX6_sounds_j18 at hF
  refine g_iconst (v := (1 : Int32)) C dX6_sounds_18 rfl ?_
  refine g_iconst (v := (1 : Int32)) C dX6_sounds_19 rfl ?_
  obtain ⟨x1, S2, h, hF⟩ := gB_some hF
  obtain ⟨hi, h⟩ := gV_some h
  refine g_after (g_runV (n := 3) C dX6_sounds_20 rfl hi (mX6_bad C.2.2.2.2.2.2.2.2.2.2.2.1 t1 t0 (1 : Int32) (1 : Int32) S _ _ h) (lw_V q2183 q2185 qs46 q124 q2186) (by decide +kernel) ⟨by rw [hRf]; exact Nat.le_of_ble_eq_true rfl, by rw [hRl]; exact Nat.le_of_ble_eq_true rfl⟩ rfl rfl (gle gc_0 (by decide))) ?_
  refine g_if_eq C 28 dX6_sounds_23 rfl hF (fun c hF => ?_) (fun c hF => ?_)
  · refine g_iconst (v := (0 : Int32)) C dX6_sounds_28 rfl ?_
    refine g_istore_n C dX6_sounds_29 (by decide) rfl ?_
    refine g_iconst (v := (0 : Int32)) C dX6_sounds_30 rfl ?_
    refine g_istore_n C dX6_sounds_31 (by decide) rfl ?_
    exact g_sub [2, 3, 1, 0] rfl (wfX6_sounds_l32 C hRf hRl gFU a0 a1 (0 : Int32) (0 : Int32) S2 hF)
  · refine g_iconst (v := (0 : Int32)) C dX6_sounds_26 rfl ?_
    cases hF
    exact g_iret C dX6_sounds_27 rfl rfl
theorem mX6_sounds {l : Launch} {D : gD} {K : gK} (hl : l.stackTraces = false) : ∀ (p0 : Option Nat) (p1 : Int32) (S : gS) (r : Int32) (S1 : gS), fX6_sounds p0 p1 S = some (r, S1) → gMet l D K yX6_sounds (ws_ yX6_sounds cX6_sounds 4 (Option.some Jvm.ClassFile.FieldType.int)) 3 142 [va_rf p0, .int p1] S (.inl (some (.int r))) S1 := by
  intro p0 p1 S r S1 hF
  unfold fX6_sounds at hF
  refine gMet.of hl (by decide +kernel) rfl (gle (lgs_r (lgs_i lgs_0)) (by decide)) (fun p e s m below meth c R hRf hRl C _ => ?_)
  generalize hargs : ([va_rf p0, .int p1] : List Value).toArray = args at C ⊢
  generalize hu0 : S.2.2.1 = u0 at C ⊢
  rw [show lv_args 0 [va_rf p0, .int p1] = [(0, va_rf p0), (1, .int p1)] from (lva_r rfl (lva_i rfl lva_0))]
  refine g_aload_n C 0 dX6_sounds_0 rfl ?_
  refine g_iconst (v := (0 : Int32)) C dX6_sounds_1 rfl ?_
  refine g_put C dX6_sounds_2 fd_44 (Or.inl q2028) (Or.inl rfl) pf_0 rfl rfl hF (fun S1 hF => ?_)
  refine g_aload_n C 0 dX6_sounds_5 rfl ?_
  refine g_iload_n C 1 dX6_sounds_6 rfl ?_
  obtain ⟨x2, h, hF⟩ := oB hF
  refine g_after (g_runS (n := 1) C dX6_sounds_7 (mX6_isVowel C.2.2.2.2.2.2.2.2.2.2.2.1 p1 S1 _ h) (lw_S q2410 q2411 q124 q2412) (by decide +kernel) ⟨by rw [hRf]; exact Nat.le_of_ble_eq_true rfl, by rw [hRl]; exact Nat.le_of_ble_eq_true rfl⟩ rfl rfl (gle (gc_r gc_0) (by decide))) ?_
  refine g_if_ne C 17 dX6_sounds_10 rfl hF (fun c hF => ?_) (fun c hF => ?_)
  · refine g_iconst (v := (0 : Int32)) C dX6_sounds_17 rfl ?_
    exact g_sub [0, 1] rfl (wfX6_sounds_j18 C hRf hRl p0 p1 (0 : Int32) p0 S1 hF)
  · refine g_iconst (v := (1 : Int32)) C dX6_sounds_13 rfl ?_
    refine g_goto C 18 dX6_sounds_14 rfl ?_
    exact g_sub [0, 1] rfl (wfX6_sounds_j18 C hRf hRl p0 p1 (1 : Int32) p0 S1 hF)
/-! VowelChoirModel.beats(I)I -/
def fX6_beats_i32 (ih : (Option Nat) → (Int32) → (Int32) → (Int32) → gS → Option (Int32 × gS)) (a0 : Option Nat) (a1 : Int32) (a2 : Int32) (a3 : Int32) (S : gS) : Option (Int32 × gS) :=
  (oGetR [3] 12 a0 S).bind fun x1 =>
  (oLdI 0 x1 (1 : Int32) S).bind fun x2 =>
  (if x2 ≤ a3 then
  some (a2, S)
  else
  (oGetR [3] 29 a0 S).bind fun x3 =>
  (oLdI 0 x3 ((35 : Int32) + a3) S).bind fun x4 =>
  (if x4 = a1 then
  (oGetR [3] 16 a0 S).bind fun x5 =>
  (oLdR 5 x5 a3 S).bind fun x6 =>
  (oLdI 0 x6 (1 : Int32) S).bind fun x7 =>
  ih a0 a1 (a2 + x7) (a3 + (1 : Int32)) S
  else
  ih a0 a1 (a2 + (0 : Int32)) (a3 + (1 : Int32)) S))
def fX6_beats_l32 : Nat → (Option Nat) → (Int32) → (Int32) → (Int32) → gS → Option (Int32 × gS)
  | 0 => fun _ _ _ _ _ => none
  | n + 1 => fun a0 a1 a2 a3 S => fX6_beats_i32 (fX6_beats_l32 n) a0 a1 a2 a3 S
def fX6_beats_j18 (a0 : Option Nat) (a1 : Int32) (t0 : Int32) (t1 : Option Nat) (S : gS) : Option (Int32 × gS) :=
  gB (gV [3] t1 S (fX6_bad t1 t0 (1 : Int32) (1 : Int32) S)) fun x1 S2 =>
  (if x1 = 0 then
  fX6_beats_l32 gFU a0 a1 (0 : Int32) (0 : Int32) S2
  else
  some ((0 : Int32), S2))
def fX6_beats (p0 : Option Nat) (p1 : Int32) (S : gS) : Option (Int32 × gS) :=
  (oPut [3] 0 p0 (.int ((0 : Int32))) S).bind fun S1 =>
  (fX6_isVowel p1 S1).bind fun x2 =>
  (if x2 = 0 then
  fX6_beats_j18 p0 p1 (1 : Int32) p0 S1
  else
  fX6_beats_j18 p0 p1 (0 : Int32) p0 S1)
theorem wfX6_beats_l32 {r : Int32} {S1 : gS} (C : gCx p l R s m args meth c D K RX6 cX6_beats 4 (Option.some Jvm.ClassFile.FieldType.int) [] "beats" u0) (hRf : R.frames = 3) (hRl : R.locals = 142) : ∀ (n : Nat) (a0 : Option Nat) (a1 : Int32) (a2 : Int32) (a3 : Int32) (S : gS), fX6_beats_l32 n a0 a1 a2 a3 S = some (r, S1) → gW p l e R s m args below meth c D K 4 u0 (gEnd below args s D K u0 (.inl (some (.int r))) S1) S 32 [(0, va_rf a0), (1, .int a1), (2, .int a2), (3, .int a3)] [] := by
  intro n
  induction n with
  | zero => intro a0 a1 a2 a3 S hF; cases hF
  | succ n hih =>
    intro a0 a1 a2 a3 S hF
    have hF : fX6_beats_i32 (fX6_beats_l32 n) a0 a1 a2 a3 S = some (r, S1) := hF
    revert hF hih
    generalize fX6_beats_l32 n = ih
    intro hih hF
    unfold fX6_beats_i32 at hF
    refine g_iload_n C 3 dX6_beats_32 rfl ?_
    refine g_aload_n C 0 dX6_beats_33 rfl ?_
    refine g_getR C dX6_beats_34 fd_15 (Or.inl q2040) (Or.inl rfl) hF (fun x1 hF => ?_)
    refine g_iconst (v := (1 : Int32)) C dX6_beats_37 rfl ?_
    refine g_iald C dX6_beats_38 hF (fun x2 hF => ?_)
    refine g_icmp_ge C 76 dX6_beats_39 rfl hF (fun c hF => ?_) (fun c hF => ?_)
    · refine g_iload_n C 2 dX6_beats_76 rfl ?_
      cases hF
      exact g_iret C dX6_beats_77 rfl rfl
    · refine g_iload_n C 2 dX6_beats_42 rfl ?_
      refine g_aload_n C 0 dX6_beats_43 rfl ?_
      refine g_getR C dX6_beats_44 fd_22 (Or.inl q2057) (Or.inl rfl) hF (fun x3 hF => ?_)
      refine g_bipush (v := (35 : Int32)) C dX6_beats_47 rfl ?_
      refine g_iload_n C 3 dX6_beats_49 rfl ?_
      refine g_iadd C dX6_beats_50 ?_
      refine g_iald C dX6_beats_51 hF (fun x4 hF => ?_)
      refine g_iload_n C 1 dX6_beats_52 rfl ?_
      refine g_icmp_ne C 67 dX6_beats_53 rfl hF (fun c hF => ?_) (fun c hF => ?_)
      · refine g_iconst (v := (0 : Int32)) C dX6_beats_67 rfl ?_
        refine g_iadd C dX6_beats_68 ?_
        refine g_istore_n C dX6_beats_69 (by decide) rfl ?_
        refine g_iinc (v := (1 : Int32)) C 3 dX6_beats_70 rfl rfl (by decide) rfl ?_
        refine g_goto C 32 dX6_beats_73 rfl ?_
        exact g_sub [2, 3, 1, 0] rfl (hih a0 a1 (a2 + (0 : Int32)) (a3 + (1 : Int32)) S hF)
      · refine g_aload_n C 0 dX6_beats_56 rfl ?_
        refine g_getR C dX6_beats_57 fd_19 (Or.inl q2044) (Or.inl rfl) hF (fun x5 hF => ?_)
        refine g_iload_n C 3 dX6_beats_60 rfl ?_
        refine g_aald C (kd := 5) rfl dX6_beats_61 hF (fun x6 hF => ?_)
        refine g_iconst (v := (1 : Int32)) C dX6_beats_62 rfl ?_
        refine g_iald C dX6_beats_63 hF (fun x7 hF => ?_)
        refine g_goto C 68 dX6_beats_64 rfl ?_
        refine g_iadd C dX6_beats_68 ?_
        refine g_istore_n C dX6_beats_69 (by decide) rfl ?_
        refine g_iinc (v := (1 : Int32)) C 3 dX6_beats_70 rfl rfl (by decide) rfl ?_
        refine g_goto C 32 dX6_beats_73 rfl ?_
        exact g_sub [2, 3, 1, 0] rfl (hih a0 a1 (a2 + x7) (a3 + (1 : Int32)) S hF)
theorem wfX6_beats_j18 {r : Int32} {S1 : gS} (C : gCx p l R s m args meth c D K RX6 cX6_beats 4 (Option.some Jvm.ClassFile.FieldType.int) [] "beats" u0) (hRf : R.frames = 3) (hRl : R.locals = 142) : ∀ (a0 : Option Nat) (a1 : Int32) (t0 : Int32) (t1 : Option Nat) (S : gS), fX6_beats_j18 a0 a1 t0 t1 S = some (r, S1) → gW p l e R s m args below meth c D K 4 u0 (gEnd below args s D K u0 (.inl (some (.int r))) S1) S 18 [(0, va_rf a0), (1, .int a1)] [.int t0, va_rf t1] := by
  intro a0 a1 t0 t1 S hF
  unfold fX6_beats_j18 at hF
  refine g_iconst (v := (1 : Int32)) C dX6_beats_18 rfl ?_
  refine g_iconst (v := (1 : Int32)) C dX6_beats_19 rfl ?_
  obtain ⟨x1, S2, h, hF⟩ := gB_some hF
  obtain ⟨hi, h⟩ := gV_some h
  refine g_after (g_runV (n := 3) C dX6_beats_20 rfl hi (mX6_bad C.2.2.2.2.2.2.2.2.2.2.2.1 t1 t0 (1 : Int32) (1 : Int32) S _ _ h) (lw_V q2183 q2185 qs46 q124 q2186) (by decide +kernel) ⟨by rw [hRf]; exact Nat.le_of_ble_eq_true rfl, by rw [hRl]; exact Nat.le_of_ble_eq_true rfl⟩ rfl rfl (gle gc_0 (by decide))) ?_
  refine g_if_eq C 28 dX6_beats_23 rfl hF (fun c hF => ?_) (fun c hF => ?_)
  · refine g_iconst (v := (0 : Int32)) C dX6_beats_28 rfl ?_
    refine g_istore_n C dX6_beats_29 (by decide) rfl ?_
    refine g_iconst (v := (0 : Int32)) C dX6_beats_30 rfl ?_
    refine g_istore_n C dX6_beats_31 (by decide) rfl ?_
    exact g_sub [2, 3, 1, 0] rfl (wfX6_beats_l32 C hRf hRl gFU a0 a1 (0 : Int32) (0 : Int32) S2 hF)
  · refine g_iconst (v := (0 : Int32)) C dX6_beats_26 rfl ?_
    cases hF
    exact g_iret C dX6_beats_27 rfl rfl
theorem mX6_beats {l : Launch} {D : gD} {K : gK} (hl : l.stackTraces = false) : ∀ (p0 : Option Nat) (p1 : Int32) (S : gS) (r : Int32) (S1 : gS), fX6_beats p0 p1 S = some (r, S1) → gMet l D K yX6_beats (ws_ yX6_beats cX6_beats 4 (Option.some Jvm.ClassFile.FieldType.int)) 3 142 [va_rf p0, .int p1] S (.inl (some (.int r))) S1 := by
  intro p0 p1 S r S1 hF
  unfold fX6_beats at hF
  refine gMet.of hl (by decide +kernel) rfl (gle (lgs_r (lgs_i lgs_0)) (by decide)) (fun p e s m below meth c R hRf hRl C _ => ?_)
  generalize hargs : ([va_rf p0, .int p1] : List Value).toArray = args at C ⊢
  generalize hu0 : S.2.2.1 = u0 at C ⊢
  rw [show lv_args 0 [va_rf p0, .int p1] = [(0, va_rf p0), (1, .int p1)] from (lva_r rfl (lva_i rfl lva_0))]
  refine g_aload_n C 0 dX6_beats_0 rfl ?_
  refine g_iconst (v := (0 : Int32)) C dX6_beats_1 rfl ?_
  refine g_put C dX6_beats_2 fd_44 (Or.inl q2028) (Or.inl rfl) pf_0 rfl rfl hF (fun S1 hF => ?_)
  refine g_aload_n C 0 dX6_beats_5 rfl ?_
  refine g_iload_n C 1 dX6_beats_6 rfl ?_
  obtain ⟨x2, h, hF⟩ := oB hF
  refine g_after (g_runS (n := 1) C dX6_beats_7 (mX6_isVowel C.2.2.2.2.2.2.2.2.2.2.2.1 p1 S1 _ h) (lw_S q2410 q2411 q124 q2412) (by decide +kernel) ⟨by rw [hRf]; exact Nat.le_of_ble_eq_true rfl, by rw [hRl]; exact Nat.le_of_ble_eq_true rfl⟩ rfl rfl (gle (gc_r gc_0) (by decide))) ?_
  refine g_if_ne C 17 dX6_beats_10 rfl hF (fun c hF => ?_) (fun c hF => ?_)
  · refine g_iconst (v := (0 : Int32)) C dX6_beats_17 rfl ?_
    exact g_sub [0, 1] rfl (wfX6_beats_j18 C hRf hRl p0 p1 (0 : Int32) p0 S1 hF)
  · refine g_iconst (v := (1 : Int32)) C dX6_beats_13 rfl ?_
    refine g_goto C 18 dX6_beats_14 rfl ?_
    exact g_sub [0, 1] rfl (wfX6_beats_j18 C hRf hRl p0 p1 (1 : Int32) p0 S1 hF)
/-! VowelChoirModel.words(I)I -/
def fX6_words_j19 (a0 : Option Nat) (a1 : Int32) (t0 : Int32) (t1 : Option Nat) (S : gS) : Option (Int32 × gS) :=
  gB (gV [3] t1 S (fX6_bad t1 t0 (1 : Int32) (0 : Int32) S)) fun x1 S2 =>
  (if x1 = 0 then
  (gV [3] a0 S2 (fX6_wordsOf a0 a1 S2)).bind fun x3 =>
  some (x3, S2)
  else
  some ((0 : Int32), S2))
def fX6_words (p0 : Option Nat) (p1 : Int32) (S : gS) : Option (Int32 × gS) :=
  (oPut [3] 0 p0 (.int ((0 : Int32))) S).bind fun S1 =>
  (gV [3] p0 S1 (fX6_isNote p0 p1 S1)).bind fun x2 =>
  (if x2 = 0 then
  fX6_words_j19 p0 p1 (1 : Int32) p0 S1
  else
  fX6_words_j19 p0 p1 (0 : Int32) p0 S1)
theorem wfX6_words_j19 {r : Int32} {S1 : gS} (C : gCx p l R s m args meth c D K RX6 cX6_words 2 (Option.some Jvm.ClassFile.FieldType.int) [] "words" u0) (hRf : R.frames = 3) (hRl : R.locals = 143) : ∀ (a0 : Option Nat) (a1 : Int32) (t0 : Int32) (t1 : Option Nat) (S : gS), fX6_words_j19 a0 a1 t0 t1 S = some (r, S1) → gW p l e R s m args below meth c D K 2 u0 (gEnd below args s D K u0 (.inl (some (.int r))) S1) S 19 [(0, va_rf a0), (1, .int a1)] [.int t0, va_rf t1] := by
  intro a0 a1 t0 t1 S hF
  unfold fX6_words_j19 at hF
  refine g_iconst (v := (1 : Int32)) C dX6_words_19 rfl ?_
  refine g_iconst (v := (0 : Int32)) C dX6_words_20 rfl ?_
  obtain ⟨x1, S2, h, hF⟩ := gB_some hF
  obtain ⟨hi, h⟩ := gV_some h
  refine g_after (g_runV (n := 3) C dX6_words_21 rfl hi (mX6_bad C.2.2.2.2.2.2.2.2.2.2.2.1 t1 t0 (1 : Int32) (0 : Int32) S _ _ h) (lw_V q2183 q2185 qs46 q124 q2186) (by decide +kernel) ⟨by rw [hRf]; exact Nat.le_of_ble_eq_true rfl, by rw [hRl]; exact Nat.le_of_ble_eq_true rfl⟩ rfl rfl (gle gc_0 (by decide))) ?_
  refine g_if_eq C 29 dX6_words_24 rfl hF (fun c hF => ?_) (fun c hF => ?_)
  · refine g_aload_n C 0 dX6_words_29 rfl ?_
    refine g_iload_n C 1 dX6_words_30 rfl ?_
    obtain ⟨x3, h, hF⟩ := oB hF
    obtain ⟨hi, h⟩ := gV_some h
    refine g_after (g_runV (n := 1) C dX6_words_31 rfl hi (mX6_wordsOf C.2.2.2.2.2.2.2.2.2.2.2.1 a0 a1 S2 _ h) (lw_V q2358 q2360 qs78 q124 q2361) (by decide +kernel) ⟨by rw [hRf]; exact Nat.le_of_ble_eq_true rfl, by rw [hRl]; exact Nat.le_of_ble_eq_true rfl⟩ rfl rfl (gle gc_0 (by decide))) ?_
    cases hF
    exact g_iret C dX6_words_34 rfl rfl
  · refine g_iconst (v := (0 : Int32)) C dX6_words_27 rfl ?_
    cases hF
    exact g_iret C dX6_words_28 rfl rfl
theorem mX6_words {l : Launch} {D : gD} {K : gK} (hl : l.stackTraces = false) : ∀ (p0 : Option Nat) (p1 : Int32) (S : gS) (r : Int32) (S1 : gS), fX6_words p0 p1 S = some (r, S1) → gMet l D K yX6_words (ws_ yX6_words cX6_words 2 (Option.some Jvm.ClassFile.FieldType.int)) 3 143 [va_rf p0, .int p1] S (.inl (some (.int r))) S1 := by
  intro p0 p1 S r S1 hF
  unfold fX6_words at hF
  refine gMet.of hl (by decide +kernel) rfl (gle (lgs_r (lgs_i lgs_0)) (by decide)) (fun p e s m below meth c R hRf hRl C _ => ?_)
  generalize hargs : ([va_rf p0, .int p1] : List Value).toArray = args at C ⊢
  generalize hu0 : S.2.2.1 = u0 at C ⊢
  rw [show lv_args 0 [va_rf p0, .int p1] = [(0, va_rf p0), (1, .int p1)] from (lva_r rfl (lva_i rfl lva_0))]
  refine g_aload_n C 0 dX6_words_0 rfl ?_
  refine g_iconst (v := (0 : Int32)) C dX6_words_1 rfl ?_
  refine g_put C dX6_words_2 fd_44 (Or.inl q2028) (Or.inl rfl) pf_0 rfl rfl hF (fun S1 hF => ?_)
  refine g_aload_n C 0 dX6_words_5 rfl ?_
  refine g_aload_n C 0 dX6_words_6 rfl ?_
  refine g_iload_n C 1 dX6_words_7 rfl ?_
  obtain ⟨x2, h, hF⟩ := oB hF
  obtain ⟨hi, h⟩ := gV_some h
  refine g_after (g_runV (n := 1) C dX6_words_8 rfl hi (mX6_isNote C.2.2.2.2.2.2.2.2.2.2.2.1 p0 p1 S1 _ h) (lw_V q2394 q2396 qs83 q124 q2397) (by decide +kernel) ⟨by rw [hRf]; exact Nat.le_of_ble_eq_true rfl, by rw [hRl]; exact Nat.le_of_ble_eq_true rfl⟩ rfl rfl (gle (gc_r gc_0) (by decide))) ?_
  refine g_if_ne C 18 dX6_words_11 rfl hF (fun c hF => ?_) (fun c hF => ?_)
  · refine g_iconst (v := (0 : Int32)) C dX6_words_18 rfl ?_
    exact g_sub [0, 1] rfl (wfX6_words_j19 C hRf hRl p0 p1 (0 : Int32) p0 S1 hF)
  · refine g_iconst (v := (1 : Int32)) C dX6_words_14 rfl ?_
    refine g_goto C 19 dX6_words_15 rfl ?_
    exact g_sub [0, 1] rfl (wfX6_words_j19 C hRf hRl p0 p1 (1 : Int32) p0 S1 hF)
/-! VowelChoirModel.mute()I -/
def fX6_mute_i9 (ih : (Option Nat) → (Int32) → (Int32) → gS → Option (Int32 × gS)) (a0 : Option Nat) (a1 : Int32) (a2 : Int32) (S : gS) : Option (Int32 × gS) :=
  (oGetR [3] 12 a0 S).bind fun x1 =>
  (oLdI 0 x1 (1 : Int32) S).bind fun x2 =>
  (if x2 ≤ a2 then
  some (a1, S)
  else
  (oGetR [3] 29 a0 S).bind fun x3 =>
  gB (gV [3] a0 S (fX6_sungBy a0 x3 a2 S)) fun x4 S5 =>
  (if x4 = (-1 : Int32) then
  ih a0 (a1 ||| ((1 : Int32) <<< (a2 &&& 31))) (a2 + (1 : Int32)) S5
  else
  ih a0 (a1 ||| (0 : Int32)) (a2 + (1 : Int32)) S5))
def fX6_mute_l9 : Nat → (Option Nat) → (Int32) → (Int32) → gS → Option (Int32 × gS)
  | 0 => fun _ _ _ _ => none
  | n + 1 => fun a0 a1 a2 S => fX6_mute_i9 (fX6_mute_l9 n) a0 a1 a2 S
def fX6_mute (p0 : Option Nat) (S : gS) : Option (Int32 × gS) :=
  (oPut [3] 0 p0 (.int ((0 : Int32))) S).bind fun S1 =>
  fX6_mute_l9 gFU p0 (0 : Int32) (0 : Int32) S1
theorem wfX6_mute_l9 {r : Int32} {S1 : gS} (C : gCx p l R s m args meth c D K RX6 cX6_mute 3 (Option.some Jvm.ClassFile.FieldType.int) [] "mute" u0) (hRf : R.frames = 7) (hRl : R.locals = 239) : ∀ (n : Nat) (a0 : Option Nat) (a1 : Int32) (a2 : Int32) (S : gS), fX6_mute_l9 n a0 a1 a2 S = some (r, S1) → gW p l e R s m args below meth c D K 3 u0 (gEnd below args s D K u0 (.inl (some (.int r))) S1) S 9 [(0, va_rf a0), (1, .int a1), (2, .int a2)] [] := by
  intro n
  induction n with
  | zero => intro a0 a1 a2 S hF; cases hF
  | succ n hih =>
    intro a0 a1 a2 S hF
    have hF : fX6_mute_i9 (fX6_mute_l9 n) a0 a1 a2 S = some (r, S1) := hF
    revert hF hih
    generalize fX6_mute_l9 n = ih
    intro hih hF
    unfold fX6_mute_i9 at hF
    refine g_iload_n C 2 dX6_mute_9 rfl ?_
    refine g_aload_n C 0 dX6_mute_10 rfl ?_
    refine g_getR C dX6_mute_11 fd_15 (Or.inl q2040) (Or.inl rfl) hF (fun x1 hF => ?_)
    refine g_iconst (v := (1 : Int32)) C dX6_mute_14 rfl ?_
    refine g_iald C dX6_mute_15 hF (fun x2 hF => ?_)
    refine g_icmp_ge C 48 dX6_mute_16 rfl hF (fun c hF => ?_) (fun c hF => ?_)
    · refine g_iload_n C 1 dX6_mute_48 rfl ?_
      cases hF
      exact g_iret C dX6_mute_49 rfl rfl
    · refine g_iload_n C 1 dX6_mute_19 rfl ?_
      refine g_aload_n C 0 dX6_mute_20 rfl ?_
      refine g_aload_n C 0 dX6_mute_21 rfl ?_
      refine g_getR C dX6_mute_22 fd_22 (Or.inl q2057) (Or.inl rfl) hF (fun x3 hF => ?_)
      refine g_iload_n C 2 dX6_mute_25 rfl ?_
      obtain ⟨x4, S5, h, hF⟩ := gB_some hF
      obtain ⟨hi, h⟩ := gV_some h
      refine g_after (g_runV (n := 2) C dX6_mute_26 rfl hi (mX6_sungBy C.2.2.2.2.2.2.2.2.2.2.2.1 a0 x3 a2 S _ _ h) (lw_V q2322 q2324 qs72 q124 q2325) (by decide +kernel) ⟨by rw [hRf]; exact Nat.le_of_ble_eq_true rfl, by rw [hRl]; exact Nat.le_of_ble_eq_true rfl⟩ rfl rfl (gle (gc_i gc_0) (by decide))) ?_
      refine g_iconst (v := (-1 : Int32)) C dX6_mute_29 rfl ?_
      refine g_icmp_ne C 39 dX6_mute_30 rfl hF (fun c hF => ?_) (fun c hF => ?_)
      · refine g_iconst (v := (0 : Int32)) C dX6_mute_39 rfl ?_
        refine g_ior C dX6_mute_40 ?_
        refine g_istore_n C dX6_mute_41 (by decide) (gcons rfl (gfr rfl (gfd rfl (gfk rfl rfl gf0)))) ?_
        refine g_iinc (v := (1 : Int32)) C 2 dX6_mute_42 rfl rfl (by decide) rfl ?_
        refine g_goto C 9 dX6_mute_45 rfl ?_
        exact g_sub [2, 1, 0] rfl (hih a0 (a1 ||| (0 : Int32)) (a2 + (1 : Int32)) S5 hF)
      · refine g_iconst (v := (1 : Int32)) C dX6_mute_33 rfl ?_
        refine g_iload_n C 2 dX6_mute_34 rfl ?_
        refine g_ishl C dX6_mute_35 ?_
        refine g_goto C 40 dX6_mute_36 rfl ?_
        refine g_ior C dX6_mute_40 ?_
        refine g_istore_n C dX6_mute_41 (by decide) (gcons rfl (gfr rfl (gfd rfl (gfk rfl rfl gf0)))) ?_
        refine g_iinc (v := (1 : Int32)) C 2 dX6_mute_42 rfl rfl (by decide) rfl ?_
        refine g_goto C 9 dX6_mute_45 rfl ?_
        exact g_sub [2, 1, 0] rfl (hih a0 (a1 ||| ((1 : Int32) <<< (a2 &&& 31))) (a2 + (1 : Int32)) S5 hF)
theorem mX6_mute {l : Launch} {D : gD} {K : gK} (hl : l.stackTraces = false) : ∀ (p0 : Option Nat) (S : gS) (r : Int32) (S1 : gS), fX6_mute p0 S = some (r, S1) → gMet l D K yX6_mute (ws_ yX6_mute cX6_mute 3 (Option.some Jvm.ClassFile.FieldType.int)) 7 239 [va_rf p0] S (.inl (some (.int r))) S1 := by
  intro p0 S r S1 hF
  unfold fX6_mute at hF
  refine gMet.of hl (by decide +kernel) rfl (gle (lgs_r lgs_0) (by decide)) (fun p e s m below meth c R hRf hRl C _ => ?_)
  generalize hargs : ([va_rf p0] : List Value).toArray = args at C ⊢
  generalize hu0 : S.2.2.1 = u0 at C ⊢
  rw [show lv_args 0 [va_rf p0] = [(0, va_rf p0)] from (lva_r rfl lva_0)]
  refine g_aload_n C 0 dX6_mute_0 rfl ?_
  refine g_iconst (v := (0 : Int32)) C dX6_mute_1 rfl ?_
  refine g_put C dX6_mute_2 fd_44 (Or.inl q2028) (Or.inl rfl) pf_0 rfl rfl hF (fun S1 hF => ?_)
  refine g_iconst (v := (0 : Int32)) C dX6_mute_5 rfl ?_
  refine g_istore_n C dX6_mute_6 (by decide) (gcons rfl (gfr rfl gf0)) ?_
  refine g_iconst (v := (0 : Int32)) C dX6_mute_7 rfl ?_
  refine g_istore_n C dX6_mute_8 (by decide) rfl ?_
  exact g_sub [2, 1, 0] rfl (wfX6_mute_l9 C hRf hRl gFU p0 (0 : Int32) (0 : Int32) S1 hF)
/-! VowelChoirModel.idle()I -/
def fX6_idle_i28 (ih : (Option Nat) → (Int32) → (Int32) → gS → Option (Int32 × gS)) (a0 : Option Nat) (a1 : Int32) (a2 : Int32) (S : gS) : Option (Int32 × gS) :=
  (oGetR [3] 12 a0 S).bind fun x1 =>
  (oLdI 0 x1 (0 : Int32) S).bind fun x2 =>
  (if x2 ≤ a2 then
  some (a1, S)
  else
  (oGetR [3] 30 a0 S).bind fun x3 =>
  (oLdI 0 x3 ((14 : Int32) + a2) S).bind fun x4 =>
  (oGetR [3] 29 a0 S).bind fun x5 =>
  (oLdI 0 x5 ((14 : Int32) + a2) S).bind fun x6 =>
  (if x4 = x6 then
  ih a0 (a1 ||| ((1 : Int32) <<< (a2 &&& 31))) (a2 + (1 : Int32)) S
  else
  ih a0 (a1 ||| (0 : Int32)) (a2 + (1 : Int32)) S))
def fX6_idle_l28 : Nat → (Option Nat) → (Int32) → (Int32) → gS → Option (Int32 × gS)
  | 0 => fun _ _ _ _ => none
  | n + 1 => fun a0 a1 a2 S => fX6_idle_i28 (fX6_idle_l28 n) a0 a1 a2 S
def fX6_idle (p0 : Option Nat) (S : gS) : Option (Int32 × gS) :=
  (oPut [3] 0 p0 (.int ((0 : Int32))) S).bind fun S1 =>
  (oGetR [3] 29 p0 S1).bind fun x2 =>
  (oGetR [3] 30 p0 S1).bind fun x3 =>
  gB (fX6_copies x2 x3 S1) fun x4 S5 =>
  (oGetR [3] 30 p0 S5).bind fun x6 =>
  gB (gV [3] p0 S5 (fX6_hymns p0 x6 S5)) fun x7 S8 =>
  fX6_idle_l28 gFU p0 (0 : Int32) (0 : Int32) S8
theorem wfX6_idle_l28 {r : Int32} {S1 : gS} (C : gCx p l R s m args meth c D K RX6 cX6_idle 3 (Option.some Jvm.ClassFile.FieldType.int) [] "idle" u0) (hRf : R.frames = 9) (hRl : R.locals = 285) : ∀ (n : Nat) (a0 : Option Nat) (a1 : Int32) (a2 : Int32) (S : gS), fX6_idle_l28 n a0 a1 a2 S = some (r, S1) → gW p l e R s m args below meth c D K 3 u0 (gEnd below args s D K u0 (.inl (some (.int r))) S1) S 28 [(0, va_rf a0), (1, .int a1), (2, .int a2)] [] := by
  intro n
  induction n with
  | zero => intro a0 a1 a2 S hF; cases hF
  | succ n hih =>
    intro a0 a1 a2 S hF
    have hF : fX6_idle_i28 (fX6_idle_l28 n) a0 a1 a2 S = some (r, S1) := hF
    revert hF hih
    generalize fX6_idle_l28 n = ih
    intro hih hF
    unfold fX6_idle_i28 at hF
    refine g_iload_n C 2 dX6_idle_28 rfl ?_
    refine g_aload_n C 0 dX6_idle_29 rfl ?_
    refine g_getR C dX6_idle_30 fd_15 (Or.inl q2040) (Or.inl rfl) hF (fun x1 hF => ?_)
    refine g_iconst (v := (0 : Int32)) C dX6_idle_33 rfl ?_
    refine g_iald C dX6_idle_34 hF (fun x2 hF => ?_)
    refine g_icmp_ge C 75 dX6_idle_35 rfl hF (fun c hF => ?_) (fun c hF => ?_)
    · refine g_iload_n C 1 dX6_idle_75 rfl ?_
      cases hF
      exact g_iret C dX6_idle_76 rfl rfl
    · refine g_iload_n C 1 dX6_idle_38 rfl ?_
      refine g_aload_n C 0 dX6_idle_39 rfl ?_
      refine g_getR C dX6_idle_40 fd_38 (Or.inl q2058) (Or.inl rfl) hF (fun x3 hF => ?_)
      refine g_bipush (v := (14 : Int32)) C dX6_idle_43 rfl ?_
      refine g_iload_n C 2 dX6_idle_45 rfl ?_
      refine g_iadd C dX6_idle_46 ?_
      refine g_iald C dX6_idle_47 hF (fun x4 hF => ?_)
      refine g_aload_n C 0 dX6_idle_48 rfl ?_
      refine g_getR C dX6_idle_49 fd_22 (Or.inl q2057) (Or.inl rfl) hF (fun x5 hF => ?_)
      refine g_bipush (v := (14 : Int32)) C dX6_idle_52 rfl ?_
      refine g_iload_n C 2 dX6_idle_54 rfl ?_
      refine g_iadd C dX6_idle_55 ?_
      refine g_iald C dX6_idle_56 hF (fun x6 hF => ?_)
      refine g_icmp_ne C 66 dX6_idle_57 rfl hF (fun c hF => ?_) (fun c hF => ?_)
      · refine g_iconst (v := (0 : Int32)) C dX6_idle_66 rfl ?_
        refine g_ior C dX6_idle_67 ?_
        refine g_istore_n C dX6_idle_68 (by decide) (gcons rfl (gfr rfl (gfd rfl (gfk rfl rfl gf0)))) ?_
        refine g_iinc (v := (1 : Int32)) C 2 dX6_idle_69 rfl rfl (by decide) rfl ?_
        refine g_goto C 28 dX6_idle_72 rfl ?_
        exact g_sub [2, 1, 0] rfl (hih a0 (a1 ||| (0 : Int32)) (a2 + (1 : Int32)) S hF)
      · refine g_iconst (v := (1 : Int32)) C dX6_idle_60 rfl ?_
        refine g_iload_n C 2 dX6_idle_61 rfl ?_
        refine g_ishl C dX6_idle_62 ?_
        refine g_goto C 67 dX6_idle_63 rfl ?_
        refine g_ior C dX6_idle_67 ?_
        refine g_istore_n C dX6_idle_68 (by decide) (gcons rfl (gfr rfl (gfd rfl (gfk rfl rfl gf0)))) ?_
        refine g_iinc (v := (1 : Int32)) C 2 dX6_idle_69 rfl rfl (by decide) rfl ?_
        refine g_goto C 28 dX6_idle_72 rfl ?_
        exact g_sub [2, 1, 0] rfl (hih a0 (a1 ||| ((1 : Int32) <<< (a2 &&& 31))) (a2 + (1 : Int32)) S hF)
theorem mX6_idle {l : Launch} {D : gD} {K : gK} (hl : l.stackTraces = false) : ∀ (p0 : Option Nat) (S : gS) (r : Int32) (S1 : gS), fX6_idle p0 S = some (r, S1) → gMet l D K yX6_idle (ws_ yX6_idle cX6_idle 3 (Option.some Jvm.ClassFile.FieldType.int)) 9 285 [va_rf p0] S (.inl (some (.int r))) S1 := by
  intro p0 S r S1 hF
  unfold fX6_idle at hF
  refine gMet.of hl (by decide +kernel) rfl (gle (lgs_r lgs_0) (by decide)) (fun p e s m below meth c R hRf hRl C _ => ?_)
  generalize hargs : ([va_rf p0] : List Value).toArray = args at C ⊢
  generalize hu0 : S.2.2.1 = u0 at C ⊢
  rw [show lv_args 0 [va_rf p0] = [(0, va_rf p0)] from (lva_r rfl lva_0)]
  refine g_aload_n C 0 dX6_idle_0 rfl ?_
  refine g_iconst (v := (0 : Int32)) C dX6_idle_1 rfl ?_
  refine g_put C dX6_idle_2 fd_44 (Or.inl q2028) (Or.inl rfl) pf_0 rfl rfl hF (fun S1 hF => ?_)
  refine g_iconst (v := (0 : Int32)) C dX6_idle_5 rfl ?_
  refine g_istore_n C dX6_idle_6 (by decide) (gcons rfl (gfr rfl gf0)) ?_
  refine g_aload_n C 1 dX6_idle_7 rfl ?_
  refine g_getR C dX6_idle_8 fd_22 (Or.inl q2057) (Or.inl rfl) hF (fun x2 hF => ?_)
  refine g_aload_n C 1 dX6_idle_11 rfl ?_
  refine g_getR C dX6_idle_12 fd_38 (Or.inl q2058) (Or.inl rfl) hF (fun x3 hF => ?_)
  obtain ⟨x4, S5, h, hF⟩ := gB_some hF
  refine g_after (g_runS (n := 2) C dX6_idle_15 (mX6_copies C.2.2.2.2.2.2.2.2.2.2.2.1 x2 x3 S1 _ _ h) (lw_S q2307 q2308 q124 q2309) (by decide +kernel) ⟨by rw [hRf]; exact Nat.le_of_ble_eq_true rfl, by rw [hRl]; exact Nat.le_of_ble_eq_true rfl⟩ rfl rfl (gle gc_0 (by decide))) ?_
  refine g_aload_n C 1 dX6_idle_18 rfl ?_
  refine g_aload_n C 1 dX6_idle_19 rfl ?_
  refine g_getR C dX6_idle_20 fd_38 (Or.inl q2058) (Or.inl rfl) hF (fun x6 hF => ?_)
  obtain ⟨x7, S8, h, hF⟩ := gB_some hF
  obtain ⟨hi, h⟩ := gV_some h
  refine g_after (g_runV (n := 1) C dX6_idle_23 rfl hi (mX6_hymns C.2.2.2.2.2.2.2.2.2.2.2.1 p0 x6 S5 _ _ h) (lw_V q2347 q2349 qs76 q124 q2350) (by decide +kernel) ⟨by rw [hRf]; exact Nat.le_of_ble_eq_true rfl, by rw [hRl]; exact Nat.le_of_ble_eq_true rfl⟩ rfl rfl (gle gc_0 (by decide))) ?_
  refine g_iconst (v := (0 : Int32)) C dX6_idle_26 rfl ?_
  refine g_istore_n C dX6_idle_27 (by decide) rfl ?_
  exact g_sub [2, 1, 0] rfl (wfX6_idle_l28 C hRf hRl gFU p0 (0 : Int32) (0 : Int32) S8 hF)
/-! VowelChoirModel.alone(I)I -/
def fX6_alone_j65 (k35 : (Option Nat) → (Int32) → (Int32) → (Int32) → (Int32) → gS → Option (Int32 × gS)) (a0 : Option Nat) (a1 : Int32) (a3 : Int32) (a4 : Int32) (t0 : Int32) (S : gS) : Option (Int32 × gS) :=
  (oGetR [3] 14 a0 S).bind fun x1 =>
  (oLdR 5 x1 a4 S).bind fun x2 =>
  (oLdI 0 x2 (0 : Int32) S).bind fun x3 =>
  (if x3 = a1 then
  k35 a0 a1 t0 (a3 + (1 : Int32)) (a4 + (1 : Int32)) S
  else
  k35 a0 a1 t0 (a3 + (0 : Int32)) (a4 + (1 : Int32)) S)
def fX6_alone_i35 (ih : (Option Nat) → (Int32) → (Int32) → (Int32) → (Int32) → gS → Option (Int32 × gS)) (a0 : Option Nat) (a1 : Int32) (a2 : Int32) (a3 : Int32) (a4 : Int32) (S : gS) : Option (Int32 × gS) :=
  (oGetR [3] 12 a0 S).bind fun x1 =>
  (oLdI 0 x1 (0 : Int32) S).bind fun x2 =>
  (if x2 ≤ a4 then
  (if a3 = (1 : Int32) then
  some (a2, S)
  else
  some ((-1 : Int32), S))
  else
  (oGetR [3] 14 a0 S).bind fun x3 =>
  (oLdR 5 x3 a4 S).bind fun x4 =>
  (oLdI 0 x4 (0 : Int32) S).bind fun x5 =>
  (if x5 = a1 then
  fX6_alone_j65 ih a0 a1 a3 a4 a4 S
  else
  fX6_alone_j65 ih a0 a1 a3 a4 a2 S))
def fX6_alone_l35 : Nat → (Option Nat) → (Int32) → (Int32) → (Int32) → (Int32) → gS → Option (Int32 × gS)
  | 0 => fun _ _ _ _ _ _ => none
  | n + 1 => fun a0 a1 a2 a3 a4 S => fX6_alone_i35 (fX6_alone_l35 n) a0 a1 a2 a3 a4 S
def fX6_alone_j18 (a0 : Option Nat) (a1 : Int32) (t0 : Int32) (t1 : Option Nat) (S : gS) : Option (Int32 × gS) :=
  gB (gV [3] t1 S (fX6_bad t1 t0 (1 : Int32) (1 : Int32) S)) fun x1 S2 =>
  (if x1 = 0 then
  fX6_alone_l35 gFU a0 a1 (-1 : Int32) (0 : Int32) (0 : Int32) S2
  else
  some ((0 : Int32), S2))
def fX6_alone (p0 : Option Nat) (p1 : Int32) (S : gS) : Option (Int32 × gS) :=
  (oPut [3] 0 p0 (.int ((0 : Int32))) S).bind fun S1 =>
  (fX6_isVowel p1 S1).bind fun x2 =>
  (if x2 = 0 then
  fX6_alone_j18 p0 p1 (1 : Int32) p0 S1
  else
  fX6_alone_j18 p0 p1 (0 : Int32) p0 S1)
theorem wfX6_alone_j65 {r : Int32} {S1 : gS} (C : gCx p l R s m args meth c D K RX6 cX6_alone 5 (Option.some Jvm.ClassFile.FieldType.int) [] "alone" u0) (hRf : R.frames = 3) (hRl : R.locals = 142) (k35 : (Option Nat) → (Int32) → (Int32) → (Int32) → (Int32) → gS → Option (Int32 × gS)) (hk35 : ∀ (a0 : Option Nat) (a1 : Int32) (a2 : Int32) (a3 : Int32) (a4 : Int32) (S : gS), k35 a0 a1 a2 a3 a4 S = some (r, S1) → gW p l e R s m args below meth c D K 5 u0 (gEnd below args s D K u0 (.inl (some (.int r))) S1) S 35 [(0, va_rf a0), (1, .int a1), (2, .int a2), (3, .int a3), (4, .int a4)] []) : ∀ (a0 : Option Nat) (a1 : Int32) (a3 : Int32) (a4 : Int32) (t0 : Int32) (S : gS), fX6_alone_j65 k35 a0 a1 a3 a4 t0 S = some (r, S1) → gW p l e R s m args below meth c D K 5 u0 (gEnd below args s D K u0 (.inl (some (.int r))) S1) S 65 [(0, va_rf a0), (1, .int a1), (3, .int a3), (4, .int a4)] [.int t0] := by
  intro a0 a1 a3 a4 t0 S hF
  unfold fX6_alone_j65 at hF
  refine g_istore_n C dX6_alone_65 (by decide) rfl ?_
  refine g_iload_n C 3 dX6_alone_66 rfl ?_
  refine g_aload_n C 1 dX6_alone_67 rfl ?_
  refine g_getR C dX6_alone_68 fd_16 (Or.inl q2042) (Or.inl rfl) hF (fun x1 hF => ?_)
  refine g_iload C 4 dX6_alone_71 rfl ?_
  refine g_aald C (kd := 5) rfl dX6_alone_73 hF (fun x2 hF => ?_)
  refine g_iconst (v := (0 : Int32)) C dX6_alone_74 rfl ?_
  refine g_iald C dX6_alone_75 hF (fun x3 hF => ?_)
  refine g_iload_n C 2 dX6_alone_76 rfl ?_
  refine g_icmp_ne C 84 dX6_alone_77 rfl hF (fun c hF => ?_) (fun c hF => ?_)
  · refine g_iconst (v := (0 : Int32)) C dX6_alone_84 rfl ?_
    refine g_iadd C dX6_alone_85 ?_
    refine g_istore_n C dX6_alone_86 (by decide) rfl ?_
    refine g_iinc (v := (1 : Int32)) C 4 dX6_alone_87 rfl rfl (by decide) rfl ?_
    refine g_goto C 35 dX6_alone_90 rfl ?_
    exact g_sub [3, 4, 2, 1, 0] rfl (hk35 a0 a1 t0 (a3 + (0 : Int32)) (a4 + (1 : Int32)) S hF)
  · refine g_iconst (v := (1 : Int32)) C dX6_alone_80 rfl ?_
    refine g_goto C 85 dX6_alone_81 rfl ?_
    refine g_iadd C dX6_alone_85 ?_
    refine g_istore_n C dX6_alone_86 (by decide) rfl ?_
    refine g_iinc (v := (1 : Int32)) C 4 dX6_alone_87 rfl rfl (by decide) rfl ?_
    refine g_goto C 35 dX6_alone_90 rfl ?_
    exact g_sub [3, 4, 2, 1, 0] rfl (hk35 a0 a1 t0 (a3 + (1 : Int32)) (a4 + (1 : Int32)) S hF)
theorem wfX6_alone_l35 {r : Int32} {S1 : gS} (C : gCx p l R s m args meth c D K RX6 cX6_alone 5 (Option.some Jvm.ClassFile.FieldType.int) [] "alone" u0) (hRf : R.frames = 3) (hRl : R.locals = 142) : ∀ (n : Nat) (a0 : Option Nat) (a1 : Int32) (a2 : Int32) (a3 : Int32) (a4 : Int32) (S : gS), fX6_alone_l35 n a0 a1 a2 a3 a4 S = some (r, S1) → gW p l e R s m args below meth c D K 5 u0 (gEnd below args s D K u0 (.inl (some (.int r))) S1) S 35 [(0, va_rf a0), (1, .int a1), (2, .int a2), (3, .int a3), (4, .int a4)] [] := by
  intro n
  induction n with
  | zero => intro a0 a1 a2 a3 a4 S hF; cases hF
  | succ n hih =>
    intro a0 a1 a2 a3 a4 S hF
    have hF : fX6_alone_i35 (fX6_alone_l35 n) a0 a1 a2 a3 a4 S = some (r, S1) := hF
    revert hF hih
    generalize fX6_alone_l35 n = ih
    intro hih hF
    unfold fX6_alone_i35 at hF
    refine g_iload C 4 dX6_alone_35 rfl ?_
    refine g_aload_n C 0 dX6_alone_37 rfl ?_
    refine g_getR C dX6_alone_38 fd_15 (Or.inl q2040) (Or.inl rfl) hF (fun x1 hF => ?_)
    refine g_iconst (v := (0 : Int32)) C dX6_alone_41 rfl ?_
    refine g_iald C dX6_alone_42 hF (fun x2 hF => ?_)
    refine g_icmp_ge C 93 dX6_alone_43 rfl hF (fun c hF => ?_) (fun c hF => ?_)
    · refine g_iload_n C 3 dX6_alone_93 rfl ?_
      refine g_iconst (v := (1 : Int32)) C dX6_alone_94 rfl ?_
      refine g_icmp_ne C 102 dX6_alone_95 rfl hF (fun c hF => ?_) (fun c hF => ?_)
      · refine g_iconst (v := (-1 : Int32)) C dX6_alone_102 rfl ?_
        cases hF
        exact g_iret C dX6_alone_103 rfl rfl
      · refine g_iload_n C 2 dX6_alone_98 rfl ?_
        refine g_goto C 103 dX6_alone_99 rfl ?_
        cases hF
        exact g_iret C dX6_alone_103 rfl rfl
    · refine g_aload_n C 0 dX6_alone_46 rfl ?_
      refine g_getR C dX6_alone_47 fd_16 (Or.inl q2042) (Or.inl rfl) hF (fun x3 hF => ?_)
      refine g_iload C 4 dX6_alone_50 rfl ?_
      refine g_aald C (kd := 5) rfl dX6_alone_52 hF (fun x4 hF => ?_)
      refine g_iconst (v := (0 : Int32)) C dX6_alone_53 rfl ?_
      refine g_iald C dX6_alone_54 hF (fun x5 hF => ?_)
      refine g_iload_n C 1 dX6_alone_55 rfl ?_
      refine g_icmp_ne C 64 dX6_alone_56 rfl hF (fun c hF => ?_) (fun c hF => ?_)
      · refine g_iload_n C 2 dX6_alone_64 rfl ?_
        exact g_sub [0, 1, 3, 4] rfl (wfX6_alone_j65 C hRf hRl (ih) (hih) a0 a1 a3 a4 a2 S hF)
      · refine g_iload C 4 dX6_alone_59 rfl ?_
        refine g_goto C 65 dX6_alone_61 rfl ?_
        exact g_sub [0, 1, 3, 4] rfl (wfX6_alone_j65 C hRf hRl (ih) (hih) a0 a1 a3 a4 a4 S hF)
theorem wfX6_alone_j18 {r : Int32} {S1 : gS} (C : gCx p l R s m args meth c D K RX6 cX6_alone 5 (Option.some Jvm.ClassFile.FieldType.int) [] "alone" u0) (hRf : R.frames = 3) (hRl : R.locals = 142) : ∀ (a0 : Option Nat) (a1 : Int32) (t0 : Int32) (t1 : Option Nat) (S : gS), fX6_alone_j18 a0 a1 t0 t1 S = some (r, S1) → gW p l e R s m args below meth c D K 5 u0 (gEnd below args s D K u0 (.inl (some (.int r))) S1) S 18 [(0, va_rf a0), (1, .int a1)] [.int t0, va_rf t1] := by
  intro a0 a1 t0 t1 S hF
  unfold fX6_alone_j18 at hF
  refine g_iconst (v := (1 : Int32)) C dX6_alone_18 rfl ?_
  refine g_iconst (v := (1 : Int32)) C dX6_alone_19 rfl ?_
  obtain ⟨x1, S2, h, hF⟩ := gB_some hF
  obtain ⟨hi, h⟩ := gV_some h
  refine g_after (g_runV (n := 3) C dX6_alone_20 rfl hi (mX6_bad C.2.2.2.2.2.2.2.2.2.2.2.1 t1 t0 (1 : Int32) (1 : Int32) S _ _ h) (lw_V q2183 q2185 qs46 q124 q2186) (by decide +kernel) ⟨by rw [hRf]; exact Nat.le_of_ble_eq_true rfl, by rw [hRl]; exact Nat.le_of_ble_eq_true rfl⟩ rfl rfl (gle gc_0 (by decide))) ?_
  refine g_if_eq C 28 dX6_alone_23 rfl hF (fun c hF => ?_) (fun c hF => ?_)
  · refine g_iconst (v := (-1 : Int32)) C dX6_alone_28 rfl ?_
    refine g_istore_n C dX6_alone_29 (by decide) rfl ?_
    refine g_iconst (v := (0 : Int32)) C dX6_alone_30 rfl ?_
    refine g_istore_n C dX6_alone_31 (by decide) rfl ?_
    refine g_iconst (v := (0 : Int32)) C dX6_alone_32 rfl ?_
    refine g_istore C dX6_alone_33 (by decide) rfl ?_
    exact g_sub [3, 4, 2, 1, 0] rfl (wfX6_alone_l35 C hRf hRl gFU a0 a1 (-1 : Int32) (0 : Int32) (0 : Int32) S2 hF)
  · refine g_iconst (v := (0 : Int32)) C dX6_alone_26 rfl ?_
    cases hF
    exact g_iret C dX6_alone_27 rfl rfl
theorem mX6_alone {l : Launch} {D : gD} {K : gK} (hl : l.stackTraces = false) : ∀ (p0 : Option Nat) (p1 : Int32) (S : gS) (r : Int32) (S1 : gS), fX6_alone p0 p1 S = some (r, S1) → gMet l D K yX6_alone (ws_ yX6_alone cX6_alone 5 (Option.some Jvm.ClassFile.FieldType.int)) 3 142 [va_rf p0, .int p1] S (.inl (some (.int r))) S1 := by
  intro p0 p1 S r S1 hF
  unfold fX6_alone at hF
  refine gMet.of hl (by decide +kernel) rfl (gle (lgs_r (lgs_i lgs_0)) (by decide)) (fun p e s m below meth c R hRf hRl C _ => ?_)
  generalize hargs : ([va_rf p0, .int p1] : List Value).toArray = args at C ⊢
  generalize hu0 : S.2.2.1 = u0 at C ⊢
  rw [show lv_args 0 [va_rf p0, .int p1] = [(0, va_rf p0), (1, .int p1)] from (lva_r rfl (lva_i rfl lva_0))]
  refine g_aload_n C 0 dX6_alone_0 rfl ?_
  refine g_iconst (v := (0 : Int32)) C dX6_alone_1 rfl ?_
  refine g_put C dX6_alone_2 fd_44 (Or.inl q2028) (Or.inl rfl) pf_0 rfl rfl hF (fun S1 hF => ?_)
  refine g_aload_n C 0 dX6_alone_5 rfl ?_
  refine g_iload_n C 1 dX6_alone_6 rfl ?_
  obtain ⟨x2, h, hF⟩ := oB hF
  refine g_after (g_runS (n := 1) C dX6_alone_7 (mX6_isVowel C.2.2.2.2.2.2.2.2.2.2.2.1 p1 S1 _ h) (lw_S q2410 q2411 q124 q2412) (by decide +kernel) ⟨by rw [hRf]; exact Nat.le_of_ble_eq_true rfl, by rw [hRl]; exact Nat.le_of_ble_eq_true rfl⟩ rfl rfl (gle (gc_r gc_0) (by decide))) ?_
  refine g_if_ne C 17 dX6_alone_10 rfl hF (fun c hF => ?_) (fun c hF => ?_)
  · refine g_iconst (v := (0 : Int32)) C dX6_alone_17 rfl ?_
    exact g_sub [0, 1] rfl (wfX6_alone_j18 C hRf hRl p0 p1 (0 : Int32) p0 S1 hF)
  · refine g_iconst (v := (1 : Int32)) C dX6_alone_13 rfl ?_
    refine g_goto C 18 dX6_alone_14 rfl ?_
    exact g_sub [0, 1] rfl (wfX6_alone_j18 C hRf hRl p0 p1 (1 : Int32) p0 S1 hF)
/-! VowelChoirModel.longest(I)I -/
def fX6_longest_i34 (ih : (Option Nat) → (Int32) → (Int32) → (Int32) → gS → Option (Int32 × gS)) (a0 : Option Nat) (a1 : Int32) (a2 : Int32) (a3 : Int32) (S : gS) : Option (Int32 × gS) :=
  (oGetR [3] 12 a0 S).bind fun x1 =>
  (oLdI 0 x1 (1 : Int32) S).bind fun x2 =>
  (if x2 ≤ a3 then
  (if a1 = 0 then
  some (a2, S)
  else
  (if a2 = (-1 : Int32) then
  some (a2, S)
  else
  (oGetR [3] 16 a0 S).bind fun x3 =>
  (oLdR 5 x3 a2 S).bind fun x4 =>
  (oLdI 0 x4 (1 : Int32) S).bind fun x5 =>
  some (x5, S)))
  else
  (if a2 = (-1 : Int32) then
  ih a0 a1 a3 (a3 + (1 : Int32)) S
  else
  (oGetR [3] 16 a0 S).bind fun x6 =>
  (oLdR 5 x6 a3 S).bind fun x7 =>
  (oLdI 0 x7 (1 : Int32) S).bind fun x8 =>
  (oGetR [3] 16 a0 S).bind fun x9 =>
  (oLdR 5 x9 a2 S).bind fun x10 =>
  (oLdI 0 x10 (1 : Int32) S).bind fun x11 =>
  (if x8 ≤ x11 then
  ih a0 a1 a2 (a3 + (1 : Int32)) S
  else
  ih a0 a1 a3 (a3 + (1 : Int32)) S)))
def fX6_longest_l34 : Nat → (Option Nat) → (Int32) → (Int32) → (Int32) → gS → Option (Int32 × gS)
  | 0 => fun _ _ _ _ _ => none
  | n + 1 => fun a0 a1 a2 a3 S => fX6_longest_i34 (fX6_longest_l34 n) a0 a1 a2 a3 S
def fX6_longest_j20 (a0 : Option Nat) (a1 : Int32) (t0 : Int32) (t1 : Option Nat) (S : gS) : Option (Int32 × gS) :=
  gB (gV [3] t1 S (fX6_bad t1 t0 (1 : Int32) (1 : Int32) S)) fun x1 S2 =>
  (if x1 = 0 then
  fX6_longest_l34 gFU a0 a1 (-1 : Int32) (0 : Int32) S2
  else
  some ((0 : Int32), S2))
def fX6_longest (p0 : Option Nat) (p1 : Int32) (S : gS) : Option (Int32 × gS) :=
  (oPut [3] 0 p0 (.int ((0 : Int32))) S).bind fun S1 =>
  (if (fX6_in p1 (0 : Int32) (1 : Int32)) = 0 then
  fX6_longest_j20 p0 p1 (1 : Int32) p0 S1
  else
  fX6_longest_j20 p0 p1 (0 : Int32) p0 S1)
theorem wfX6_longest_l34 {r : Int32} {S1 : gS} (C : gCx p l R s m args meth c D K RX6 cX6_longest 4 (Option.some Jvm.ClassFile.FieldType.int) [] "longest" u0) (hRf : R.frames = 2) (hRl : R.locals = 123) : ∀ (n : Nat) (a0 : Option Nat) (a1 : Int32) (a2 : Int32) (a3 : Int32) (S : gS), fX6_longest_l34 n a0 a1 a2 a3 S = some (r, S1) → gW p l e R s m args below meth c D K 4 u0 (gEnd below args s D K u0 (.inl (some (.int r))) S1) S 34 [(0, va_rf a0), (1, .int a1), (2, .int a2), (3, .int a3)] [] := by
  intro n
  induction n with
  | zero => intro a0 a1 a2 a3 S hF; cases hF
  | succ n hih =>
    intro a0 a1 a2 a3 S hF
    have hF : fX6_longest_i34 (fX6_longest_l34 n) a0 a1 a2 a3 S = some (r, S1) := hF
    revert hF hih
    generalize fX6_longest_l34 n = ih
    intro hih hF
    unfold fX6_longest_i34 at hF
    refine g_iload_n C 3 dX6_longest_34 rfl ?_
    refine g_aload_n C 0 dX6_longest_35 rfl ?_
    refine g_getR C dX6_longest_36 fd_15 (Or.inl q2040) (Or.inl rfl) hF (fun x1 hF => ?_)
    refine g_iconst (v := (1 : Int32)) C dX6_longest_39 rfl ?_
    refine g_iald C dX6_longest_40 hF (fun x2 hF => ?_)
    refine g_icmp_ge C 80 dX6_longest_41 rfl hF (fun c hF => ?_) (fun c hF => ?_)
    · refine g_iload_n C 1 dX6_longest_80 rfl ?_
      refine g_if_eq C 89 dX6_longest_81 rfl hF (fun c hF => ?_) (fun c hF => ?_)
      · refine g_iload_n C 2 dX6_longest_89 rfl ?_
        refine g_goto C 101 dX6_longest_90 rfl ?_
        cases hF
        exact g_iret C dX6_longest_101 rfl rfl
      · refine g_iload_n C 2 dX6_longest_84 rfl ?_
        refine g_iconst (v := (-1 : Int32)) C dX6_longest_85 rfl ?_
        refine g_icmp_ne C 93 dX6_longest_86 rfl hF (fun c hF => ?_) (fun c hF => ?_)
        · refine g_aload_n C 0 dX6_longest_93 rfl ?_
          refine g_getR C dX6_longest_94 fd_19 (Or.inl q2044) (Or.inl rfl) hF (fun x3 hF => ?_)
          refine g_iload_n C 2 dX6_longest_97 rfl ?_
          refine g_aald C (kd := 5) rfl dX6_longest_98 hF (fun x4 hF => ?_)
          refine g_iconst (v := (1 : Int32)) C dX6_longest_99 rfl ?_
          refine g_iald C dX6_longest_100 hF (fun x5 hF => ?_)
          cases hF
          exact g_iret C dX6_longest_101 rfl rfl
        · refine g_iload_n C 2 dX6_longest_89 rfl ?_
          refine g_goto C 101 dX6_longest_90 rfl ?_
          cases hF
          exact g_iret C dX6_longest_101 rfl rfl
    · refine g_iload_n C 2 dX6_longest_44 rfl ?_
      refine g_iconst (v := (-1 : Int32)) C dX6_longest_45 rfl ?_
      refine g_icmp_eq C 68 dX6_longest_46 rfl hF (fun c hF => ?_) (fun c hF => ?_)
      · refine g_iload_n C 3 dX6_longest_68 rfl ?_
        refine g_goto C 73 dX6_longest_69 rfl ?_
        refine g_istore_n C dX6_longest_73 (by decide) rfl ?_
        refine g_iinc (v := (1 : Int32)) C 3 dX6_longest_74 rfl rfl (by decide) rfl ?_
        refine g_goto C 34 dX6_longest_77 rfl ?_
        exact g_sub [2, 3, 1, 0] rfl (hih a0 a1 a3 (a3 + (1 : Int32)) S hF)
      · refine g_aload_n C 0 dX6_longest_49 rfl ?_
        refine g_getR C dX6_longest_50 fd_19 (Or.inl q2044) (Or.inl rfl) hF (fun x6 hF => ?_)
        refine g_iload_n C 3 dX6_longest_53 rfl ?_
        refine g_aald C (kd := 5) rfl dX6_longest_54 hF (fun x7 hF => ?_)
        refine g_iconst (v := (1 : Int32)) C dX6_longest_55 rfl ?_
        refine g_iald C dX6_longest_56 hF (fun x8 hF => ?_)
        refine g_aload_n C 0 dX6_longest_57 rfl ?_
        refine g_getR C dX6_longest_58 fd_19 (Or.inl q2044) (Or.inl rfl) hF (fun x9 hF => ?_)
        refine g_iload_n C 2 dX6_longest_61 rfl ?_
        refine g_aald C (kd := 5) rfl dX6_longest_62 hF (fun x10 hF => ?_)
        refine g_iconst (v := (1 : Int32)) C dX6_longest_63 rfl ?_
        refine g_iald C dX6_longest_64 hF (fun x11 hF => ?_)
        refine g_icmp_le C 72 dX6_longest_65 rfl hF (fun c hF => ?_) (fun c hF => ?_)
        · refine g_iload_n C 2 dX6_longest_72 rfl ?_
          refine g_istore_n C dX6_longest_73 (by decide) rfl ?_
          refine g_iinc (v := (1 : Int32)) C 3 dX6_longest_74 rfl rfl (by decide) rfl ?_
          refine g_goto C 34 dX6_longest_77 rfl ?_
          exact g_sub [2, 3, 1, 0] rfl (hih a0 a1 a2 (a3 + (1 : Int32)) S hF)
        · refine g_iload_n C 3 dX6_longest_68 rfl ?_
          refine g_goto C 73 dX6_longest_69 rfl ?_
          refine g_istore_n C dX6_longest_73 (by decide) rfl ?_
          refine g_iinc (v := (1 : Int32)) C 3 dX6_longest_74 rfl rfl (by decide) rfl ?_
          refine g_goto C 34 dX6_longest_77 rfl ?_
          exact g_sub [2, 3, 1, 0] rfl (hih a0 a1 a3 (a3 + (1 : Int32)) S hF)
theorem wfX6_longest_j20 {r : Int32} {S1 : gS} (C : gCx p l R s m args meth c D K RX6 cX6_longest 4 (Option.some Jvm.ClassFile.FieldType.int) [] "longest" u0) (hRf : R.frames = 2) (hRl : R.locals = 123) : ∀ (a0 : Option Nat) (a1 : Int32) (t0 : Int32) (t1 : Option Nat) (S : gS), fX6_longest_j20 a0 a1 t0 t1 S = some (r, S1) → gW p l e R s m args below meth c D K 4 u0 (gEnd below args s D K u0 (.inl (some (.int r))) S1) S 20 [(0, va_rf a0), (1, .int a1)] [.int t0, va_rf t1] := by
  intro a0 a1 t0 t1 S hF
  unfold fX6_longest_j20 at hF
  refine g_iconst (v := (1 : Int32)) C dX6_longest_20 rfl ?_
  refine g_iconst (v := (1 : Int32)) C dX6_longest_21 rfl ?_
  obtain ⟨x1, S2, h, hF⟩ := gB_some hF
  obtain ⟨hi, h⟩ := gV_some h
  refine g_after (g_runV (n := 3) C dX6_longest_22 rfl hi (mX6_bad C.2.2.2.2.2.2.2.2.2.2.2.1 t1 t0 (1 : Int32) (1 : Int32) S _ _ h) (lw_V q2183 q2185 qs46 q124 q2186) (by decide +kernel) ⟨by rw [hRf]; exact Nat.le_of_ble_eq_true rfl, by rw [hRl]; exact Nat.le_of_ble_eq_true rfl⟩ rfl rfl (gle gc_0 (by decide))) ?_
  refine g_if_eq C 30 dX6_longest_25 rfl hF (fun c hF => ?_) (fun c hF => ?_)
  · refine g_iconst (v := (-1 : Int32)) C dX6_longest_30 rfl ?_
    refine g_istore_n C dX6_longest_31 (by decide) rfl ?_
    refine g_iconst (v := (0 : Int32)) C dX6_longest_32 rfl ?_
    refine g_istore_n C dX6_longest_33 (by decide) rfl ?_
    exact g_sub [2, 3, 1, 0] rfl (wfX6_longest_l34 C hRf hRl gFU a0 a1 (-1 : Int32) (0 : Int32) S2 hF)
  · refine g_iconst (v := (0 : Int32)) C dX6_longest_28 rfl ?_
    cases hF
    exact g_iret C dX6_longest_29 rfl rfl
theorem mX6_longest {l : Launch} {D : gD} {K : gK} (hl : l.stackTraces = false) : ∀ (p0 : Option Nat) (p1 : Int32) (S : gS) (r : Int32) (S1 : gS), fX6_longest p0 p1 S = some (r, S1) → gMet l D K yX6_longest (ws_ yX6_longest cX6_longest 4 (Option.some Jvm.ClassFile.FieldType.int)) 2 123 [va_rf p0, .int p1] S (.inl (some (.int r))) S1 := by
  intro p0 p1 S r S1 hF
  unfold fX6_longest at hF
  refine gMet.of hl (by decide +kernel) rfl (gle (lgs_r (lgs_i lgs_0)) (by decide)) (fun p e s m below meth c R hRf hRl C _ => ?_)
  generalize hargs : ([va_rf p0, .int p1] : List Value).toArray = args at C ⊢
  generalize hu0 : S.2.2.1 = u0 at C ⊢
  rw [show lv_args 0 [va_rf p0, .int p1] = [(0, va_rf p0), (1, .int p1)] from (lva_r rfl (lva_i rfl lva_0))]
  refine g_aload_n C 0 dX6_longest_0 rfl ?_
  refine g_iconst (v := (0 : Int32)) C dX6_longest_1 rfl ?_
  refine g_put C dX6_longest_2 fd_44 (Or.inl q2028) (Or.inl rfl) pf_0 rfl rfl hF (fun S1 hF => ?_)
  refine g_aload_n C 0 dX6_longest_5 rfl ?_
  refine g_iload_n C 1 dX6_longest_6 rfl ?_
  refine g_iconst (v := (0 : Int32)) C dX6_longest_7 rfl ?_
  refine g_iconst (v := (1 : Int32)) C dX6_longest_8 rfl ?_
  refine g_after (g_runS (n := 3) C dX6_longest_9 (mX6_in C.2.2.2.2.2.2.2.2.2.2.2.1 p1 (0 : Int32) (1 : Int32) S1 _ rfl) (lw_S q2180 q2181 q124 q2182) (by decide +kernel) ⟨by rw [hRf]; exact Nat.le_of_ble_eq_true rfl, by rw [hRl]; exact Nat.le_of_ble_eq_true rfl⟩ rfl rfl (gle (gc_r gc_0) (by decide))) ?_
  refine g_if_ne C 19 dX6_longest_12 rfl hF (fun c hF => ?_) (fun c hF => ?_)
  · refine g_iconst (v := (0 : Int32)) C dX6_longest_19 rfl ?_
    exact g_sub [0, 1] rfl (wfX6_longest_j20 C hRf hRl p0 p1 (0 : Int32) p0 S1 hF)
  · refine g_iconst (v := (1 : Int32)) C dX6_longest_15 rfl ?_
    refine g_goto C 20 dX6_longest_16 rfl ?_
    exact g_sub [0, 1] rfl (wfX6_longest_j20 C hRf hRl p0 p1 (1 : Int32) p0 S1 hF)
/-! VowelChoirModel.chorus(I)I -/
def fX6_chorus_j23 (a0 : Option Nat) (a1 : Int32) (t0 : Int32) (t1 : Option Nat) (S : gS) : Option (Int32 × gS) :=
  gB (gV [3] t1 S (fX6_bad t1 t0 (1 : Int32) (1 : Int32) S)) fun x1 S2 =>
  (if x1 = 0 then
  (oGetR [3] 29 a0 S2).bind fun x3 =>
  (oGetR [3] 30 a0 S2).bind fun x4 =>
  gB (fX6_copies x3 x4 S2) fun x5 S6 =>
  gB (gV [3] a0 S6 (fX6_onlyThese a0 a1 S6)) fun x7 S8 =>
  (oGetR [3] 30 a0 S8).bind fun x9 =>
  gB (gV [3] a0 S8 (fX6_hymns a0 x9 S8)) fun x10 S11 =>
  (oGetR [3] 30 a0 S11).bind fun x12 =>
  (gV [3] a0 S11 (fX6_all a0 x12 (14 : Int32) S11)).bind fun x13 =>
  (oGetR [3] 29 a0 S11).bind fun x14 =>
  (gV [3] a0 S11 (fX6_all a0 x14 (14 : Int32) S11)).bind fun x15 =>
  some (x13 - x15, S11)
  else
  some ((0 : Int32), S2))
def fX6_chorus (p0 : Option Nat) (p1 : Int32) (S : gS) : Option (Int32 × gS) :=
  (oPut [3] 0 p0 (.int ((0 : Int32))) S).bind fun S1 =>
  (gV [3] p0 S1 (fX6_everySinger p0 S1)).bind fun x2 =>
  (if (fX6_in p1 (0 : Int32) x2) = 0 then
  fX6_chorus_j23 p0 p1 (1 : Int32) p0 S1
  else
  fX6_chorus_j23 p0 p1 (0 : Int32) p0 S1)
theorem wfX6_chorus_j23 {r : Int32} {S1 : gS} (C : gCx p l R s m args meth c D K RX6 cX6_chorus 2 (Option.some Jvm.ClassFile.FieldType.int) [] "chorus" u0) (hRf : R.frames = 9) (hRl : R.locals = 285) : ∀ (a0 : Option Nat) (a1 : Int32) (t0 : Int32) (t1 : Option Nat) (S : gS), fX6_chorus_j23 a0 a1 t0 t1 S = some (r, S1) → gW p l e R s m args below meth c D K 2 u0 (gEnd below args s D K u0 (.inl (some (.int r))) S1) S 23 [(0, va_rf a0), (1, .int a1)] [.int t0, va_rf t1] := by
  intro a0 a1 t0 t1 S hF
  unfold fX6_chorus_j23 at hF
  refine g_iconst (v := (1 : Int32)) C dX6_chorus_23 rfl ?_
  refine g_iconst (v := (1 : Int32)) C dX6_chorus_24 rfl ?_
  obtain ⟨x1, S2, h, hF⟩ := gB_some hF
  obtain ⟨hi, h⟩ := gV_some h
  refine g_after (g_runV (n := 3) C dX6_chorus_25 rfl hi (mX6_bad C.2.2.2.2.2.2.2.2.2.2.2.1 t1 t0 (1 : Int32) (1 : Int32) S _ _ h) (lw_V q2183 q2185 qs46 q124 q2186) (by decide +kernel) ⟨by rw [hRf]; exact Nat.le_of_ble_eq_true rfl, by rw [hRl]; exact Nat.le_of_ble_eq_true rfl⟩ rfl rfl (gle gc_0 (by decide))) ?_
  refine g_if_eq C 33 dX6_chorus_28 rfl hF (fun c hF => ?_) (fun c hF => ?_)
  · refine g_aload_n C 0 dX6_chorus_33 rfl ?_
    refine g_getR C dX6_chorus_34 fd_22 (Or.inl q2057) (Or.inl rfl) hF (fun x3 hF => ?_)
    refine g_aload_n C 0 dX6_chorus_37 rfl ?_
    refine g_getR C dX6_chorus_38 fd_38 (Or.inl q2058) (Or.inl rfl) hF (fun x4 hF => ?_)
    obtain ⟨x5, S6, h, hF⟩ := gB_some hF
    refine g_after (g_runS (n := 2) C dX6_chorus_41 (mX6_copies C.2.2.2.2.2.2.2.2.2.2.2.1 x3 x4 S2 _ _ h) (lw_S q2307 q2308 q124 q2309) (by decide +kernel) ⟨by rw [hRf]; exact Nat.le_of_ble_eq_true rfl, by rw [hRl]; exact Nat.le_of_ble_eq_true rfl⟩ rfl rfl (gle gc_0 (by decide))) ?_
    refine g_aload_n C 0 dX6_chorus_44 rfl ?_
    refine g_iload_n C 1 dX6_chorus_45 rfl ?_
    obtain ⟨x7, S8, h, hF⟩ := gB_some hF
    obtain ⟨hi, h⟩ := gV_some h
    refine g_after (g_runV (n := 1) C dX6_chorus_46 rfl hi (mX6_onlyThese C.2.2.2.2.2.2.2.2.2.2.2.1 a0 a1 S6 _ _ h) (lw_V q2432 q2434 qs86 q124 q2435) (by decide +kernel) ⟨by rw [hRf]; exact Nat.le_of_ble_eq_true rfl, by rw [hRl]; exact Nat.le_of_ble_eq_true rfl⟩ rfl rfl (gle gc_0 (by decide))) ?_
    refine g_aload_n C 0 dX6_chorus_49 rfl ?_
    refine g_aload_n C 0 dX6_chorus_50 rfl ?_
    refine g_getR C dX6_chorus_51 fd_38 (Or.inl q2058) (Or.inl rfl) hF (fun x9 hF => ?_)
    obtain ⟨x10, S11, h, hF⟩ := gB_some hF
    obtain ⟨hi, h⟩ := gV_some h
    refine g_after (g_runV (n := 1) C dX6_chorus_54 rfl hi (mX6_hymns C.2.2.2.2.2.2.2.2.2.2.2.1 a0 x9 S8 _ _ h) (lw_V q2347 q2349 qs76 q124 q2350) (by decide +kernel) ⟨by rw [hRf]; exact Nat.le_of_ble_eq_true rfl, by rw [hRl]; exact Nat.le_of_ble_eq_true rfl⟩ rfl rfl (gle gc_0 (by decide))) ?_
    refine g_aload_n C 0 dX6_chorus_57 rfl ?_
    refine g_aload_n C 0 dX6_chorus_58 rfl ?_
    refine g_getR C dX6_chorus_59 fd_38 (Or.inl q2058) (Or.inl rfl) hF (fun x12 hF => ?_)
    refine g_bipush (v := (14 : Int32)) C dX6_chorus_62 rfl ?_
    obtain ⟨x13, h, hF⟩ := oB hF
    obtain ⟨hi, h⟩ := gV_some h
    refine g_after (g_runV (n := 2) C dX6_chorus_64 rfl hi (mX6_all C.2.2.2.2.2.2.2.2.2.2.2.1 a0 x12 (14 : Int32) S11 _ h) (lw_V q2378 q2380 qs81 q124 q2381) (by decide +kernel) ⟨by rw [hRf]; exact Nat.le_of_ble_eq_true rfl, by rw [hRl]; exact Nat.le_of_ble_eq_true rfl⟩ rfl rfl (gle gc_0 (by decide))) ?_
    refine g_aload_n C 0 dX6_chorus_67 rfl ?_
    refine g_aload_n C 0 dX6_chorus_68 rfl ?_
    refine g_getR C dX6_chorus_69 fd_22 (Or.inl q2057) (Or.inl rfl) hF (fun x14 hF => ?_)
    refine g_bipush (v := (14 : Int32)) C dX6_chorus_72 rfl ?_
    obtain ⟨x15, h, hF⟩ := oB hF
    obtain ⟨hi, h⟩ := gV_some h
    refine g_after (g_runV (n := 2) C dX6_chorus_74 rfl hi (mX6_all C.2.2.2.2.2.2.2.2.2.2.2.1 a0 x14 (14 : Int32) S11 _ h) (lw_V q2378 q2380 qs81 q124 q2381) (by decide +kernel) ⟨by rw [hRf]; exact Nat.le_of_ble_eq_true rfl, by rw [hRl]; exact Nat.le_of_ble_eq_true rfl⟩ rfl rfl (gle (gc_i gc_0) (by decide))) ?_
    refine g_isub C dX6_chorus_77 ?_
    cases hF
    exact g_iret C dX6_chorus_78 rfl rfl
  · refine g_iconst (v := (0 : Int32)) C dX6_chorus_31 rfl ?_
    cases hF
    exact g_iret C dX6_chorus_32 rfl rfl
theorem mX6_chorus {l : Launch} {D : gD} {K : gK} (hl : l.stackTraces = false) : ∀ (p0 : Option Nat) (p1 : Int32) (S : gS) (r : Int32) (S1 : gS), fX6_chorus p0 p1 S = some (r, S1) → gMet l D K yX6_chorus (ws_ yX6_chorus cX6_chorus 2 (Option.some Jvm.ClassFile.FieldType.int)) 9 285 [va_rf p0, .int p1] S (.inl (some (.int r))) S1 := by
  intro p0 p1 S r S1 hF
  unfold fX6_chorus at hF
  refine gMet.of hl (by decide +kernel) rfl (gle (lgs_r (lgs_i lgs_0)) (by decide)) (fun p e s m below meth c R hRf hRl C _ => ?_)
  generalize hargs : ([va_rf p0, .int p1] : List Value).toArray = args at C ⊢
  generalize hu0 : S.2.2.1 = u0 at C ⊢
  rw [show lv_args 0 [va_rf p0, .int p1] = [(0, va_rf p0), (1, .int p1)] from (lva_r rfl (lva_i rfl lva_0))]
  refine g_aload_n C 0 dX6_chorus_0 rfl ?_
  refine g_iconst (v := (0 : Int32)) C dX6_chorus_1 rfl ?_
  refine g_put C dX6_chorus_2 fd_44 (Or.inl q2028) (Or.inl rfl) pf_0 rfl rfl hF (fun S1 hF => ?_)
  refine g_aload_n C 0 dX6_chorus_5 rfl ?_
  refine g_iload_n C 1 dX6_chorus_6 rfl ?_
  refine g_iconst (v := (0 : Int32)) C dX6_chorus_7 rfl ?_
  refine g_aload_n C 0 dX6_chorus_8 rfl ?_
  obtain ⟨x2, h, hF⟩ := oB hF
  obtain ⟨hi, h⟩ := gV_some h
  refine g_after (g_runV (n := 0) C dX6_chorus_9 rfl hi (mX6_everySinger C.2.2.2.2.2.2.2.2.2.2.2.1 p0 S1 _ h) (lw_V q2421 q2423 qs84 q124 q2424) (by decide +kernel) ⟨by rw [hRf]; exact Nat.le_of_ble_eq_true rfl, by rw [hRl]; exact Nat.le_of_ble_eq_true rfl⟩ rfl rfl (gle (gc_i (gc_i (gc_r gc_0))) (by decide))) ?_
  refine g_after (g_runS (n := 3) C dX6_chorus_12 (mX6_in C.2.2.2.2.2.2.2.2.2.2.2.1 p1 (0 : Int32) x2 S1 _ rfl) (lw_S q2180 q2181 q124 q2182) (by decide +kernel) ⟨by rw [hRf]; exact Nat.le_of_ble_eq_true rfl, by rw [hRl]; exact Nat.le_of_ble_eq_true rfl⟩ rfl rfl (gle (gc_r gc_0) (by decide))) ?_
  refine g_if_ne C 22 dX6_chorus_15 rfl hF (fun c hF => ?_) (fun c hF => ?_)
  · refine g_iconst (v := (0 : Int32)) C dX6_chorus_22 rfl ?_
    exact g_sub [0, 1] rfl (wfX6_chorus_j23 C hRf hRl p0 p1 (0 : Int32) p0 S1 hF)
  · refine g_iconst (v := (1 : Int32)) C dX6_chorus_18 rfl ?_
    refine g_goto C 23 dX6_chorus_19 rfl ?_
    exact g_sub [0, 1] rfl (wfX6_chorus_j23 C hRf hRl p0 p1 (1 : Int32) p0 S1 hF)
/-! VowelChoirModel.spare(I)I -/
def fX6_spare_i34 (ih : (Option Nat) → (Int32) → (Int32) → (Int32) → gS → Option (Int32 × gS)) (a0 : Option Nat) (a1 : Int32) (a2 : Int32) (a3 : Int32) (S : gS) : Option (Int32 × gS) :=
  (oGetR [3] 12 a0 S).bind fun x1 =>
  (oLdI 0 x1 (0 : Int32) S).bind fun x2 =>
  (if x2 ≤ a3 then
  (if a1 = 0 then
  some (a2, S)
  else
  (if a2 = (-1 : Int32) then
  some (a2, S)
  else
  (oGetR [3] 29 a0 S).bind fun x3 =>
  (oLdI 0 x3 ((0 : Int32) + a2) S).bind fun x4 =>
  some (x4, S)))
  else
  (if a2 = (-1 : Int32) then
  ih a0 a1 a3 (a3 + (1 : Int32)) S
  else
  (oGetR [3] 29 a0 S).bind fun x5 =>
  (oLdI 0 x5 ((0 : Int32) + a3) S).bind fun x6 =>
  (oGetR [3] 29 a0 S).bind fun x7 =>
  (oLdI 0 x7 ((0 : Int32) + a2) S).bind fun x8 =>
  (if x8 ≤ x6 then
  ih a0 a1 a2 (a3 + (1 : Int32)) S
  else
  ih a0 a1 a3 (a3 + (1 : Int32)) S)))
def fX6_spare_l34 : Nat → (Option Nat) → (Int32) → (Int32) → (Int32) → gS → Option (Int32 × gS)
  | 0 => fun _ _ _ _ _ => none
  | n + 1 => fun a0 a1 a2 a3 S => fX6_spare_i34 (fX6_spare_l34 n) a0 a1 a2 a3 S
def fX6_spare_j20 (a0 : Option Nat) (a1 : Int32) (t0 : Int32) (t1 : Option Nat) (S : gS) : Option (Int32 × gS) :=
  gB (gV [3] t1 S (fX6_bad t1 t0 (1 : Int32) (1 : Int32) S)) fun x1 S2 =>
  (if x1 = 0 then
  fX6_spare_l34 gFU a0 a1 (-1 : Int32) (0 : Int32) S2
  else
  some ((0 : Int32), S2))
def fX6_spare (p0 : Option Nat) (p1 : Int32) (S : gS) : Option (Int32 × gS) :=
  (oPut [3] 0 p0 (.int ((0 : Int32))) S).bind fun S1 =>
  (if (fX6_in p1 (0 : Int32) (1 : Int32)) = 0 then
  fX6_spare_j20 p0 p1 (1 : Int32) p0 S1
  else
  fX6_spare_j20 p0 p1 (0 : Int32) p0 S1)
theorem wfX6_spare_l34 {r : Int32} {S1 : gS} (C : gCx p l R s m args meth c D K RX6 cX6_spare 4 (Option.some Jvm.ClassFile.FieldType.int) [] "spare" u0) (hRf : R.frames = 2) (hRl : R.locals = 123) : ∀ (n : Nat) (a0 : Option Nat) (a1 : Int32) (a2 : Int32) (a3 : Int32) (S : gS), fX6_spare_l34 n a0 a1 a2 a3 S = some (r, S1) → gW p l e R s m args below meth c D K 4 u0 (gEnd below args s D K u0 (.inl (some (.int r))) S1) S 34 [(0, va_rf a0), (1, .int a1), (2, .int a2), (3, .int a3)] [] := by
  intro n
  induction n with
  | zero => intro a0 a1 a2 a3 S hF; cases hF
  | succ n hih =>
    intro a0 a1 a2 a3 S hF
    have hF : fX6_spare_i34 (fX6_spare_l34 n) a0 a1 a2 a3 S = some (r, S1) := hF
    revert hF hih
    generalize fX6_spare_l34 n = ih
    intro hih hF
    unfold fX6_spare_i34 at hF
    refine g_iload_n C 3 dX6_spare_34 rfl ?_
    refine g_aload_n C 0 dX6_spare_35 rfl ?_
    refine g_getR C dX6_spare_36 fd_15 (Or.inl q2040) (Or.inl rfl) hF (fun x1 hF => ?_)
    refine g_iconst (v := (0 : Int32)) C dX6_spare_39 rfl ?_
    refine g_iald C dX6_spare_40 hF (fun x2 hF => ?_)
    refine g_icmp_ge C 80 dX6_spare_41 rfl hF (fun c hF => ?_) (fun c hF => ?_)
    · refine g_iload_n C 1 dX6_spare_80 rfl ?_
      refine g_if_eq C 89 dX6_spare_81 rfl hF (fun c hF => ?_) (fun c hF => ?_)
      · refine g_iload_n C 2 dX6_spare_89 rfl ?_
        refine g_goto C 101 dX6_spare_90 rfl ?_
        cases hF
        exact g_iret C dX6_spare_101 rfl rfl
      · refine g_iload_n C 2 dX6_spare_84 rfl ?_
        refine g_iconst (v := (-1 : Int32)) C dX6_spare_85 rfl ?_
        refine g_icmp_ne C 93 dX6_spare_86 rfl hF (fun c hF => ?_) (fun c hF => ?_)
        · refine g_aload_n C 0 dX6_spare_93 rfl ?_
          refine g_getR C dX6_spare_94 fd_22 (Or.inl q2057) (Or.inl rfl) hF (fun x3 hF => ?_)
          refine g_iconst (v := (0 : Int32)) C dX6_spare_97 rfl ?_
          refine g_iload_n C 2 dX6_spare_98 rfl ?_
          refine g_iadd C dX6_spare_99 ?_
          refine g_iald C dX6_spare_100 hF (fun x4 hF => ?_)
          cases hF
          exact g_iret C dX6_spare_101 rfl rfl
        · refine g_iload_n C 2 dX6_spare_89 rfl ?_
          refine g_goto C 101 dX6_spare_90 rfl ?_
          cases hF
          exact g_iret C dX6_spare_101 rfl rfl
    · refine g_iload_n C 2 dX6_spare_44 rfl ?_
      refine g_iconst (v := (-1 : Int32)) C dX6_spare_45 rfl ?_
      refine g_icmp_eq C 68 dX6_spare_46 rfl hF (fun c hF => ?_) (fun c hF => ?_)
      · refine g_iload_n C 3 dX6_spare_68 rfl ?_
        refine g_goto C 73 dX6_spare_69 rfl ?_
        refine g_istore_n C dX6_spare_73 (by decide) rfl ?_
        refine g_iinc (v := (1 : Int32)) C 3 dX6_spare_74 rfl rfl (by decide) rfl ?_
        refine g_goto C 34 dX6_spare_77 rfl ?_
        exact g_sub [2, 3, 1, 0] rfl (hih a0 a1 a3 (a3 + (1 : Int32)) S hF)
      · refine g_aload_n C 0 dX6_spare_49 rfl ?_
        refine g_getR C dX6_spare_50 fd_22 (Or.inl q2057) (Or.inl rfl) hF (fun x5 hF => ?_)
        refine g_iconst (v := (0 : Int32)) C dX6_spare_53 rfl ?_
        refine g_iload_n C 3 dX6_spare_54 rfl ?_
        refine g_iadd C dX6_spare_55 ?_
        refine g_iald C dX6_spare_56 hF (fun x6 hF => ?_)
        refine g_aload_n C 0 dX6_spare_57 rfl ?_
        refine g_getR C dX6_spare_58 fd_22 (Or.inl q2057) (Or.inl rfl) hF (fun x7 hF => ?_)
        refine g_iconst (v := (0 : Int32)) C dX6_spare_61 rfl ?_
        refine g_iload_n C 2 dX6_spare_62 rfl ?_
        refine g_iadd C dX6_spare_63 ?_
        refine g_iald C dX6_spare_64 hF (fun x8 hF => ?_)
        refine g_icmp_ge C 72 dX6_spare_65 rfl hF (fun c hF => ?_) (fun c hF => ?_)
        · refine g_iload_n C 2 dX6_spare_72 rfl ?_
          refine g_istore_n C dX6_spare_73 (by decide) rfl ?_
          refine g_iinc (v := (1 : Int32)) C 3 dX6_spare_74 rfl rfl (by decide) rfl ?_
          refine g_goto C 34 dX6_spare_77 rfl ?_
          exact g_sub [2, 3, 1, 0] rfl (hih a0 a1 a2 (a3 + (1 : Int32)) S hF)
        · refine g_iload_n C 3 dX6_spare_68 rfl ?_
          refine g_goto C 73 dX6_spare_69 rfl ?_
          refine g_istore_n C dX6_spare_73 (by decide) rfl ?_
          refine g_iinc (v := (1 : Int32)) C 3 dX6_spare_74 rfl rfl (by decide) rfl ?_
          refine g_goto C 34 dX6_spare_77 rfl ?_
          exact g_sub [2, 3, 1, 0] rfl (hih a0 a1 a3 (a3 + (1 : Int32)) S hF)
theorem wfX6_spare_j20 {r : Int32} {S1 : gS} (C : gCx p l R s m args meth c D K RX6 cX6_spare 4 (Option.some Jvm.ClassFile.FieldType.int) [] "spare" u0) (hRf : R.frames = 2) (hRl : R.locals = 123) : ∀ (a0 : Option Nat) (a1 : Int32) (t0 : Int32) (t1 : Option Nat) (S : gS), fX6_spare_j20 a0 a1 t0 t1 S = some (r, S1) → gW p l e R s m args below meth c D K 4 u0 (gEnd below args s D K u0 (.inl (some (.int r))) S1) S 20 [(0, va_rf a0), (1, .int a1)] [.int t0, va_rf t1] := by
  intro a0 a1 t0 t1 S hF
  unfold fX6_spare_j20 at hF
  refine g_iconst (v := (1 : Int32)) C dX6_spare_20 rfl ?_
  refine g_iconst (v := (1 : Int32)) C dX6_spare_21 rfl ?_
  obtain ⟨x1, S2, h, hF⟩ := gB_some hF
  obtain ⟨hi, h⟩ := gV_some h
  refine g_after (g_runV (n := 3) C dX6_spare_22 rfl hi (mX6_bad C.2.2.2.2.2.2.2.2.2.2.2.1 t1 t0 (1 : Int32) (1 : Int32) S _ _ h) (lw_V q2183 q2185 qs46 q124 q2186) (by decide +kernel) ⟨by rw [hRf]; exact Nat.le_of_ble_eq_true rfl, by rw [hRl]; exact Nat.le_of_ble_eq_true rfl⟩ rfl rfl (gle gc_0 (by decide))) ?_
  refine g_if_eq C 30 dX6_spare_25 rfl hF (fun c hF => ?_) (fun c hF => ?_)
  · refine g_iconst (v := (-1 : Int32)) C dX6_spare_30 rfl ?_
    refine g_istore_n C dX6_spare_31 (by decide) rfl ?_
    refine g_iconst (v := (0 : Int32)) C dX6_spare_32 rfl ?_
    refine g_istore_n C dX6_spare_33 (by decide) rfl ?_
    exact g_sub [2, 3, 1, 0] rfl (wfX6_spare_l34 C hRf hRl gFU a0 a1 (-1 : Int32) (0 : Int32) S2 hF)
  · refine g_iconst (v := (0 : Int32)) C dX6_spare_28 rfl ?_
    cases hF
    exact g_iret C dX6_spare_29 rfl rfl
theorem mX6_spare {l : Launch} {D : gD} {K : gK} (hl : l.stackTraces = false) : ∀ (p0 : Option Nat) (p1 : Int32) (S : gS) (r : Int32) (S1 : gS), fX6_spare p0 p1 S = some (r, S1) → gMet l D K yX6_spare (ws_ yX6_spare cX6_spare 4 (Option.some Jvm.ClassFile.FieldType.int)) 2 123 [va_rf p0, .int p1] S (.inl (some (.int r))) S1 := by
  intro p0 p1 S r S1 hF
  unfold fX6_spare at hF
  refine gMet.of hl (by decide +kernel) rfl (gle (lgs_r (lgs_i lgs_0)) (by decide)) (fun p e s m below meth c R hRf hRl C _ => ?_)
  generalize hargs : ([va_rf p0, .int p1] : List Value).toArray = args at C ⊢
  generalize hu0 : S.2.2.1 = u0 at C ⊢
  rw [show lv_args 0 [va_rf p0, .int p1] = [(0, va_rf p0), (1, .int p1)] from (lva_r rfl (lva_i rfl lva_0))]
  refine g_aload_n C 0 dX6_spare_0 rfl ?_
  refine g_iconst (v := (0 : Int32)) C dX6_spare_1 rfl ?_
  refine g_put C dX6_spare_2 fd_44 (Or.inl q2028) (Or.inl rfl) pf_0 rfl rfl hF (fun S1 hF => ?_)
  refine g_aload_n C 0 dX6_spare_5 rfl ?_
  refine g_iload_n C 1 dX6_spare_6 rfl ?_
  refine g_iconst (v := (0 : Int32)) C dX6_spare_7 rfl ?_
  refine g_iconst (v := (1 : Int32)) C dX6_spare_8 rfl ?_
  refine g_after (g_runS (n := 3) C dX6_spare_9 (mX6_in C.2.2.2.2.2.2.2.2.2.2.2.1 p1 (0 : Int32) (1 : Int32) S1 _ rfl) (lw_S q2180 q2181 q124 q2182) (by decide +kernel) ⟨by rw [hRf]; exact Nat.le_of_ble_eq_true rfl, by rw [hRl]; exact Nat.le_of_ble_eq_true rfl⟩ rfl rfl (gle (gc_r gc_0) (by decide))) ?_
  refine g_if_ne C 19 dX6_spare_12 rfl hF (fun c hF => ?_) (fun c hF => ?_)
  · refine g_iconst (v := (0 : Int32)) C dX6_spare_19 rfl ?_
    exact g_sub [0, 1] rfl (wfX6_spare_j20 C hRf hRl p0 p1 (0 : Int32) p0 S1 hF)
  · refine g_iconst (v := (1 : Int32)) C dX6_spare_15 rfl ?_
    refine g_goto C 20 dX6_spare_16 rfl ?_
    exact g_sub [0, 1] rfl (wfX6_spare_j20 C hRf hRl p0 p1 (1 : Int32) p0 S1 hF)
/-! VowelChoirModel.isSunday(II)Z -/
def fX6_isSunday (p0 : Int32) (p1 : Int32) : Int32 :=
  (if (fX6_in p0 (1 : Int32) (48 : Int32)) = 0 then
  (0 : Int32)
  else
  (if (fX6_in p1 (0 : Int32) (16 : Int32)) = 0 then
  (0 : Int32)
  else
  (1 : Int32)))
theorem mX6_isSunday {l : Launch} {D : gD} {K : gK} (hl : l.stackTraces = false) : ∀ (p0 : Int32) (p1 : Int32) (S : gS) (r : Int32), fX6_isSunday p0 p1 = r → gMet l D K yX6_isSunday (ws_ yX6_isSunday cX6_isSunday 2 (Option.some Jvm.ClassFile.FieldType.boolean)) 2 122 [.int p0, .int p1] S (.inl (some (.int r))) S := by
  intro p0 p1 S r hF
  unfold fX6_isSunday at hF
  refine gMet.of hl (by decide +kernel) rfl (gle (lgs_i (lgs_i lgs_0)) (by decide)) (fun p e s m below meth c R hRf hRl C _ => ?_)
  generalize hargs : ([.int p0, .int p1] : List Value).toArray = args at C ⊢
  generalize hu0 : S.2.2.1 = u0 at C ⊢
  rw [show lv_args 0 [.int p0, .int p1] = [(0, .int p0), (1, .int p1)] from (lva_i rfl (lva_i rfl lva_0))]
  refine g_iload_n C 0 dX6_isSunday_0 rfl ?_
  refine g_iconst (v := (1 : Int32)) C dX6_isSunday_1 rfl ?_
  refine g_bipush (v := (48 : Int32)) C dX6_isSunday_2 rfl ?_
  refine g_after (g_runS (n := 3) C dX6_isSunday_4 (mX6_in C.2.2.2.2.2.2.2.2.2.2.2.1 p0 (1 : Int32) (48 : Int32) S _ rfl) (lw_S q2180 q2181 q124 q2182) (by decide +kernel) ⟨by rw [hRf]; exact Nat.le_of_ble_eq_true rfl, by rw [hRl]; exact Nat.le_of_ble_eq_true rfl⟩ rfl rfl (gle gc_0 (by decide))) ?_
  refine g_if_eq C 24 dX6_isSunday_7 rfl hF (fun c hF => ?_) (fun c hF => ?_)
  · refine g_iconst (v := (0 : Int32)) C dX6_isSunday_24 rfl ?_
    subst hF
    exact g_zret (ty := .boolean) C (rfl) dX6_isSunday_25 rfl rfl
  · refine g_iload_n C 1 dX6_isSunday_10 rfl ?_
    refine g_iconst (v := (0 : Int32)) C dX6_isSunday_11 rfl ?_
    refine g_bipush (v := (16 : Int32)) C dX6_isSunday_12 rfl ?_
    refine g_after (g_runS (n := 3) C dX6_isSunday_14 (mX6_in C.2.2.2.2.2.2.2.2.2.2.2.1 p1 (0 : Int32) (16 : Int32) S _ rfl) (lw_S q2180 q2181 q124 q2182) (by decide +kernel) ⟨by rw [hRf]; exact Nat.le_of_ble_eq_true rfl, by rw [hRl]; exact Nat.le_of_ble_eq_true rfl⟩ rfl rfl (gle gc_0 (by decide))) ?_
    refine g_if_eq C 24 dX6_isSunday_17 rfl hF (fun c hF => ?_) (fun c hF => ?_)
    · refine g_iconst (v := (0 : Int32)) C dX6_isSunday_24 rfl ?_
      subst hF
      exact g_zret (ty := .boolean) C (rfl) dX6_isSunday_25 rfl rfl
    · refine g_iconst (v := (1 : Int32)) C dX6_isSunday_20 rfl ?_
      refine g_goto C 25 dX6_isSunday_21 rfl ?_
      subst hF
      exact g_zret (ty := .boolean) C (rfl) dX6_isSunday_25 rfl rfl
/-! VowelChoirModel.draw(I)I -/
def fX6_draw (p0 : Option Nat) (p1 : Int32) (S : gS) : Option (Int32 × gS) :=
  (oGetI [3] 45 p0 S).bind fun x1 =>
  (oPut [3] 45 p0 (.int ((x1 * (1103515245 : Int32)) + (12345 : Int32))) S).bind fun S2 =>
  (oGetI [3] 45 p0 S2).bind fun x3 =>
  if p1 = 0 then none else
  some (((x3 >>> ((16 : Int32) &&& 31)) &&& (32767 : Int32)) - ((x3 >>> ((16 : Int32) &&& 31)) &&& (32767 : Int32)) / p1 * p1, S2)
theorem mX6_draw {l : Launch} {D : gD} {K : gK} (hl : l.stackTraces = false) : ∀ (p0 : Option Nat) (p1 : Int32) (S : gS) (r : Int32) (S1 : gS), fX6_draw p0 p1 S = some (r, S1) → gMet l D K yX6_draw (ws_ yX6_draw cX6_draw 2 (Option.some Jvm.ClassFile.FieldType.int)) 1 100 [va_rf p0, .int p1] S (.inl (some (.int r))) S1 := by
  intro p0 p1 S r S1 hF
  unfold fX6_draw at hF
  refine gMet.of hl (by decide +kernel) rfl (gle (lgs_r (lgs_i lgs_0)) (by decide)) (fun p e s m below meth c R hRf hRl C _ => ?_)
  generalize hargs : ([va_rf p0, .int p1] : List Value).toArray = args at C ⊢
  generalize hu0 : S.2.2.1 = u0 at C ⊢
  rw [show lv_args 0 [va_rf p0, .int p1] = [(0, va_rf p0), (1, .int p1)] from (lva_r rfl (lva_i rfl lva_0))]
  refine g_aload_n C 0 dX6_draw_0 rfl ?_
  refine g_aload_n C 0 dX6_draw_1 rfl ?_
  refine g_getI C dX6_draw_2 fd_58 (Or.inl q2073) (Or.inl rfl) hF (fun x1 hF => ?_)
  refine g_ldcw (v := (1103515245 : Int32)) C dX6_draw_5 q2577 ?_
  refine g_imul C dX6_draw_8 ?_
  refine g_sipush (v := (12345 : Int32)) C dX6_draw_9 rfl ?_
  refine g_iadd C dX6_draw_12 ?_
  refine g_put C dX6_draw_13 fd_58 (Or.inl q2073) (Or.inl rfl) pf_0 rfl rfl hF (fun S2 hF => ?_)
  refine g_aload_n C 0 dX6_draw_16 rfl ?_
  refine g_getI C dX6_draw_17 fd_58 (Or.inl q2073) (Or.inl rfl) hF (fun x3 hF => ?_)
  refine g_bipush (v := (16 : Int32)) C dX6_draw_20 rfl ?_
  refine g_ishr C dX6_draw_22 ?_
  refine g_sipush (v := (32767 : Int32)) C dX6_draw_23 rfl ?_
  refine g_iand C dX6_draw_26 ?_
  refine g_iload_n C 1 dX6_draw_27 rfl ?_
  refine g_irem C dX6_draw_28 hF (fun hF => ?_)
  cases hF
  exact g_iret C dX6_draw_29 rfl rfl
/-! VowelChoirModel.sundayBy(III)V -/
def fX6_sundayBy_j84 (k19 : (Option Nat) → (Int32) → (Int32) → (Int32) → gS → Option (Unit × gS)) (a0 : Option Nat) (a2 : Int32) (a3 : Int32) (a4 : Int32) (t0 : Int32) (t1 : Int32) (t2 : Option Nat) (S : gS) : Option (Unit × gS) :=
  (oStI 0 t2 t1 t0 S).bind fun S1 =>
  (oGetR [3] 30 a0 S1).bind fun x2 =>
  gB (gV [3] a0 S1 (fX6_hymns a0 x2 S1)) fun x3 S4 =>
  (oGetR [3] 12 a0 S4).bind fun x5 =>
  (oLdI 0 x5 (0 : Int32) S4).bind fun x6 =>
  (if x6 ≤ 0 then
  (oGetR [3] 30 a0 S4).bind fun x7 =>
  gB (gV [3] a0 S4 (fX6_dayEnds a0 x7 S4)) fun x8 S9 =>
  k19 a0 a2 a3 (a4 + (1 : Int32)) S9
  else
  gB (gV [3] a0 S4 (fX6_draw a0 (16 : Int32) S4)) fun x10 S11 =>
  (if a3 ≤ x10 then
  (oGetR [3] 30 a0 S11).bind fun x12 =>
  gB (gV [3] a0 S11 (fX6_dayEnds a0 x12 S11)) fun x13 S14 =>
  k19 a0 a2 a3 (a4 + (1 : Int32)) S14
  else
  (oGetR [3] 30 a0 S11).bind fun x15 =>
  gB (gV [3] a0 S11 (fX6_rests a0 x15 S11)) fun x16 S17 =>
  (oGetR [3] 30 a0 S17).bind fun x18 =>
  gB (gV [3] a0 S17 (fX6_hymns a0 x18 S17)) fun x19 S20 =>
  (oGetR [3] 30 a0 S20).bind fun x21 =>
  gB (gV [3] a0 S20 (fX6_dayEnds a0 x21 S20)) fun x22 S23 =>
  k19 a0 a2 a3 (a4 + (1 : Int32)) S23))
def fX6_sundayBy_j48 (k19 : (Option Nat) → (Int32) → (Int32) → (Int32) → gS → Option (Unit × gS)) (a0 : Option Nat) (a2 : Int32) (a3 : Int32) (a4 : Int32) (t0 : Int32) (S : gS) : Option (Unit × gS) :=
  (oGetR [3] 30 a0 S).bind fun x1 =>
  (oGetR [3] 12 a0 S).bind fun x2 =>
  (oLdI 0 x2 (0 : Int32) S).bind fun x3 =>
  (if x3 ≤ 0 then
  fX6_sundayBy_j84 k19 a0 a2 a3 a4 (0 : Int32) ((7 : Int32) + t0) x1 S
  else
  (oGetR [3] 30 a0 S).bind fun x4 =>
  (oLdI 0 x4 ((7 : Int32) + t0) S).bind fun x5 =>
  fX6_sundayBy_j84 k19 a0 a2 a3 a4 ((1 : Int32) - x5) ((7 : Int32) + t0) x1 S)
def fX6_sundayBy_i19 (ih : (Option Nat) → (Int32) → (Int32) → (Int32) → gS → Option (Unit × gS)) (a0 : Option Nat) (a2 : Int32) (a3 : Int32) (a4 : Int32) (S : gS) : Option (Unit × gS) :=
  (if a2 ≤ a4 then
  some ((), S)
  else
  (oGetR [3] 12 a0 S).bind fun x1 =>
  (oLdI 0 x1 (0 : Int32) S).bind fun x2 =>
  (if x2 ≤ 0 then
  fX6_sundayBy_j48 ih a0 a2 a3 a4 (0 : Int32) S
  else
  (oGetR [3] 12 a0 S).bind fun x3 =>
  (oLdI 0 x3 (0 : Int32) S).bind fun x4 =>
  gB (gV [3] a0 S (fX6_draw a0 x4 S)) fun x5 S6 =>
  fX6_sundayBy_j48 ih a0 a2 a3 a4 x5 S6))
def fX6_sundayBy_l19 : Nat → (Option Nat) → (Int32) → (Int32) → (Int32) → gS → Option (Unit × gS)
  | 0 => fun _ _ _ _ _ => none
  | n + 1 => fun a0 a2 a3 a4 S => fX6_sundayBy_i19 (fX6_sundayBy_l19 n) a0 a2 a3 a4 S
def fX6_sundayBy (p0 : Option Nat) (p1 : Int32) (p2 : Int32) (p3 : Int32) (S : gS) : Option (Unit × gS) :=
  (oGetR [3] 29 p0 S).bind fun x1 =>
  (oGetR [3] 30 p0 S).bind fun x2 =>
  gB (fX6_copies x1 x2 S) fun x3 S4 =>
  (oPut [3] 45 p0 (.int p1) S4).bind fun S5 =>
  fX6_sundayBy_l19 gFU p0 p2 p3 (0 : Int32) S5
theorem wfX6_sundayBy_j84 {r : Unit} {S1 : gS} (C : gCx p l R s m args meth c D K RX6 cX6_sundayBy 6 (Option.none : Option Jvm.ClassFile.FieldType) [] "sundayBy" u0) (hRf : R.frames = 9) (hRl : R.locals = 285) (k19 : (Option Nat) → (Int32) → (Int32) → (Int32) → gS → Option (Unit × gS)) (hk19 : ∀ (a0 : Option Nat) (a2 : Int32) (a3 : Int32) (a4 : Int32) (S : gS), k19 a0 a2 a3 a4 S = some (r, S1) → gW p l e R s m args below meth c D K 6 u0 (gEnd below args s D K u0 (.inl none) S1) S 19 [(0, va_rf a0), (2, .int a2), (3, .int a3), (4, .int a4)] []) : ∀ (a0 : Option Nat) (a2 : Int32) (a3 : Int32) (a4 : Int32) (t0 : Int32) (t1 : Int32) (t2 : Option Nat) (S : gS), fX6_sundayBy_j84 k19 a0 a2 a3 a4 t0 t1 t2 S = some (r, S1) → gW p l e R s m args below meth c D K 6 u0 (gEnd below args s D K u0 (.inl none) S1) S 84 [(0, va_rf a0), (2, .int a2), (3, .int a3), (4, .int a4)] [.int t0, .int t1, va_rf t2] := by
  intro a0 a2 a3 a4 t0 t1 t2 S hF
  unfold fX6_sundayBy_j84 at hF
  refine g_iast C dX6_sundayBy_84 hF (fun S1 hF => ?_)
  refine g_aload_n C 0 dX6_sundayBy_85 rfl ?_
  refine g_aload_n C 0 dX6_sundayBy_86 rfl ?_
  refine g_getR C dX6_sundayBy_87 fd_38 (Or.inl q2058) (Or.inl rfl) hF (fun x2 hF => ?_)
  obtain ⟨x3, S4, h, hF⟩ := gB_some hF
  obtain ⟨hi, h⟩ := gV_some h
  refine g_after (g_runV (n := 1) C dX6_sundayBy_90 rfl hi (mX6_hymns C.2.2.2.2.2.2.2.2.2.2.2.1 a0 x2 S1 _ _ h) (lw_V q2347 q2349 qs76 q124 q2350) (by decide +kernel) ⟨by rw [hRf]; exact Nat.le_of_ble_eq_true rfl, by rw [hRl]; exact Nat.le_of_ble_eq_true rfl⟩ rfl rfl (gle gc_0 (by decide))) ?_
  refine g_aload_n C 0 dX6_sundayBy_93 rfl ?_
  refine g_getR C dX6_sundayBy_94 fd_15 (Or.inl q2040) (Or.inl rfl) hF (fun x5 hF => ?_)
  refine g_iconst (v := (0 : Int32)) C dX6_sundayBy_97 rfl ?_
  refine g_iald C dX6_sundayBy_98 hF (fun x6 hF => ?_)
  refine g_if_le C 129 dX6_sundayBy_99 rfl hF (fun c hF => ?_) (fun c hF => ?_)
  · refine g_aload_n C 0 dX6_sundayBy_129 rfl ?_
    refine g_aload_n C 0 dX6_sundayBy_130 rfl ?_
    refine g_getR C dX6_sundayBy_131 fd_38 (Or.inl q2058) (Or.inl rfl) hF (fun x7 hF => ?_)
    obtain ⟨x8, S9, h, hF⟩ := gB_some hF
    obtain ⟨hi, h⟩ := gV_some h
    refine g_after (g_runV (n := 1) C dX6_sundayBy_134 rfl hi (mX6_dayEnds C.2.2.2.2.2.2.2.2.2.2.2.1 a0 x7 S4 _ _ h) (lw_V q2362 q2364 qs79 q124 q2365) (by decide +kernel) ⟨by rw [hRf]; exact Nat.le_of_ble_eq_true rfl, by rw [hRl]; exact Nat.le_of_ble_eq_true rfl⟩ rfl rfl (gle gc_0 (by decide))) ?_
    refine g_iinc (v := (1 : Int32)) C 3 dX6_sundayBy_137 rfl rfl (by decide) rfl ?_
    refine g_goto C 19 dX6_sundayBy_140 rfl ?_
    exact g_sub [1, 2, 3, 0] rfl (hk19 a0 a2 a3 (a4 + (1 : Int32)) S9 hF)
  · refine g_aload_n C 0 dX6_sundayBy_102 rfl ?_
    refine g_bipush (v := (16 : Int32)) C dX6_sundayBy_103 rfl ?_
    obtain ⟨x10, S11, h, hF⟩ := gB_some hF
    obtain ⟨hi, h⟩ := gV_some h
    refine g_after (g_runV (n := 1) C dX6_sundayBy_105 rfl hi (mX6_draw C.2.2.2.2.2.2.2.2.2.2.2.1 a0 (16 : Int32) S4 _ _ h) (lw_V q2573 q2575 qs95 q124 q2576) (by decide +kernel) ⟨by rw [hRf]; exact Nat.le_of_ble_eq_true rfl, by rw [hRl]; exact Nat.le_of_ble_eq_true rfl⟩ rfl rfl (gle gc_0 (by decide))) ?_
    refine g_iload_n C 2 dX6_sundayBy_108 rfl ?_
    refine g_icmp_ge C 129 dX6_sundayBy_109 rfl hF (fun c hF => ?_) (fun c hF => ?_)
    · refine g_aload_n C 0 dX6_sundayBy_129 rfl ?_
      refine g_aload_n C 0 dX6_sundayBy_130 rfl ?_
      refine g_getR C dX6_sundayBy_131 fd_38 (Or.inl q2058) (Or.inl rfl) hF (fun x12 hF => ?_)
      obtain ⟨x13, S14, h, hF⟩ := gB_some hF
      obtain ⟨hi, h⟩ := gV_some h
      refine g_after (g_runV (n := 1) C dX6_sundayBy_134 rfl hi (mX6_dayEnds C.2.2.2.2.2.2.2.2.2.2.2.1 a0 x12 S11 _ _ h) (lw_V q2362 q2364 qs79 q124 q2365) (by decide +kernel) ⟨by rw [hRf]; exact Nat.le_of_ble_eq_true rfl, by rw [hRl]; exact Nat.le_of_ble_eq_true rfl⟩ rfl rfl (gle gc_0 (by decide))) ?_
      refine g_iinc (v := (1 : Int32)) C 3 dX6_sundayBy_137 rfl rfl (by decide) rfl ?_
      refine g_goto C 19 dX6_sundayBy_140 rfl ?_
      exact g_sub [1, 2, 3, 0] rfl (hk19 a0 a2 a3 (a4 + (1 : Int32)) S14 hF)
    · refine g_aload_n C 0 dX6_sundayBy_112 rfl ?_
      refine g_aload_n C 0 dX6_sundayBy_113 rfl ?_
      refine g_getR C dX6_sundayBy_114 fd_38 (Or.inl q2058) (Or.inl rfl) hF (fun x15 hF => ?_)
      obtain ⟨x16, S17, h, hF⟩ := gB_some hF
      obtain ⟨hi, h⟩ := gV_some h
      refine g_after (g_runV (n := 1) C dX6_sundayBy_117 rfl hi (mX6_rests C.2.2.2.2.2.2.2.2.2.2.2.1 a0 x15 S11 _ _ h) (lw_V q2351 q2353 qs77 q124 q2354) (by decide +kernel) ⟨by rw [hRf]; exact Nat.le_of_ble_eq_true rfl, by rw [hRl]; exact Nat.le_of_ble_eq_true rfl⟩ rfl rfl (gle gc_0 (by decide))) ?_
      refine g_pop C dX6_sundayBy_120 rfl ?_
      refine g_aload_n C 0 dX6_sundayBy_121 rfl ?_
      refine g_aload_n C 0 dX6_sundayBy_122 rfl ?_
      refine g_getR C dX6_sundayBy_123 fd_38 (Or.inl q2058) (Or.inl rfl) hF (fun x18 hF => ?_)
      obtain ⟨x19, S20, h, hF⟩ := gB_some hF
      obtain ⟨hi, h⟩ := gV_some h
      refine g_after (g_runV (n := 1) C dX6_sundayBy_126 rfl hi (mX6_hymns C.2.2.2.2.2.2.2.2.2.2.2.1 a0 x18 S17 _ _ h) (lw_V q2347 q2349 qs76 q124 q2350) (by decide +kernel) ⟨by rw [hRf]; exact Nat.le_of_ble_eq_true rfl, by rw [hRl]; exact Nat.le_of_ble_eq_true rfl⟩ rfl rfl (gle gc_0 (by decide))) ?_
      refine g_aload_n C 0 dX6_sundayBy_129 rfl ?_
      refine g_aload_n C 0 dX6_sundayBy_130 rfl ?_
      refine g_getR C dX6_sundayBy_131 fd_38 (Or.inl q2058) (Or.inl rfl) hF (fun x21 hF => ?_)
      obtain ⟨x22, S23, h, hF⟩ := gB_some hF
      obtain ⟨hi, h⟩ := gV_some h
      refine g_after (g_runV (n := 1) C dX6_sundayBy_134 rfl hi (mX6_dayEnds C.2.2.2.2.2.2.2.2.2.2.2.1 a0 x21 S20 _ _ h) (lw_V q2362 q2364 qs79 q124 q2365) (by decide +kernel) ⟨by rw [hRf]; exact Nat.le_of_ble_eq_true rfl, by rw [hRl]; exact Nat.le_of_ble_eq_true rfl⟩ rfl rfl (gle gc_0 (by decide))) ?_
      refine g_iinc (v := (1 : Int32)) C 3 dX6_sundayBy_137 rfl rfl (by decide) rfl ?_
      refine g_goto C 19 dX6_sundayBy_140 rfl ?_
      exact g_sub [1, 2, 3, 0] rfl (hk19 a0 a2 a3 (a4 + (1 : Int32)) S23 hF)
theorem wfX6_sundayBy_j48 {r : Unit} {S1 : gS} (C : gCx p l R s m args meth c D K RX6 cX6_sundayBy 6 (Option.none : Option Jvm.ClassFile.FieldType) [] "sundayBy" u0) (hRf : R.frames = 9) (hRl : R.locals = 285) (k19 : (Option Nat) → (Int32) → (Int32) → (Int32) → gS → Option (Unit × gS)) (hk19 : ∀ (a0 : Option Nat) (a2 : Int32) (a3 : Int32) (a4 : Int32) (S : gS), k19 a0 a2 a3 a4 S = some (r, S1) → gW p l e R s m args below meth c D K 6 u0 (gEnd below args s D K u0 (.inl none) S1) S 19 [(0, va_rf a0), (2, .int a2), (3, .int a3), (4, .int a4)] []) : ∀ (a0 : Option Nat) (a2 : Int32) (a3 : Int32) (a4 : Int32) (t0 : Int32) (S : gS), fX6_sundayBy_j48 k19 a0 a2 a3 a4 t0 S = some (r, S1) → gW p l e R s m args below meth c D K 6 u0 (gEnd below args s D K u0 (.inl none) S1) S 48 [(0, va_rf a0), (2, .int a2), (3, .int a3), (4, .int a4)] [.int t0] := by
  intro a0 a2 a3 a4 t0 S hF
  unfold fX6_sundayBy_j48 at hF
  refine g_istore C dX6_sundayBy_48 (by decide) rfl ?_
  refine g_aload_n C 1 dX6_sundayBy_50 rfl ?_
  refine g_getR C dX6_sundayBy_51 fd_38 (Or.inl q2058) (Or.inl rfl) hF (fun x1 hF => ?_)
  refine g_bipush (v := (7 : Int32)) C dX6_sundayBy_54 rfl ?_
  refine g_iload C 0 dX6_sundayBy_56 rfl ?_
  refine g_iadd C dX6_sundayBy_58 ?_
  refine g_aload_n C 1 dX6_sundayBy_59 rfl ?_
  refine g_getR C dX6_sundayBy_60 fd_15 (Or.inl q2040) (Or.inl rfl) hF (fun x2 hF => ?_)
  refine g_iconst (v := (0 : Int32)) C dX6_sundayBy_63 rfl ?_
  refine g_iald C dX6_sundayBy_64 hF (fun x3 hF => ?_)
  refine g_if_le C 83 dX6_sundayBy_65 rfl hF (fun c hF => ?_) (fun c hF => ?_)
  · refine g_iconst (v := (0 : Int32)) C dX6_sundayBy_83 rfl ?_
    exact g_sub [1, 2, 3, 4] rfl (wfX6_sundayBy_j84 C hRf hRl (k19) (hk19) a0 a2 a3 a4 (0 : Int32) ((7 : Int32) + t0) x1 S hF)
  · refine g_iconst (v := (1 : Int32)) C dX6_sundayBy_68 rfl ?_
    refine g_aload_n C 1 dX6_sundayBy_69 rfl ?_
    refine g_getR C dX6_sundayBy_70 fd_38 (Or.inl q2058) (Or.inl rfl) hF (fun x4 hF => ?_)
    refine g_bipush (v := (7 : Int32)) C dX6_sundayBy_73 rfl ?_
    refine g_iload C 0 dX6_sundayBy_75 rfl ?_
    refine g_iadd C dX6_sundayBy_77 ?_
    refine g_iald C dX6_sundayBy_78 hF (fun x5 hF => ?_)
    refine g_isub C dX6_sundayBy_79 ?_
    refine g_goto C 84 dX6_sundayBy_80 rfl ?_
    exact g_sub [1, 2, 3, 4] rfl (wfX6_sundayBy_j84 C hRf hRl (k19) (hk19) a0 a2 a3 a4 ((1 : Int32) - x5) ((7 : Int32) + t0) x1 S hF)
theorem wfX6_sundayBy_l19 {r : Unit} {S1 : gS} (C : gCx p l R s m args meth c D K RX6 cX6_sundayBy 6 (Option.none : Option Jvm.ClassFile.FieldType) [] "sundayBy" u0) (hRf : R.frames = 9) (hRl : R.locals = 285) : ∀ (n : Nat) (a0 : Option Nat) (a2 : Int32) (a3 : Int32) (a4 : Int32) (S : gS), fX6_sundayBy_l19 n a0 a2 a3 a4 S = some (r, S1) → gW p l e R s m args below meth c D K 6 u0 (gEnd below args s D K u0 (.inl none) S1) S 19 [(0, va_rf a0), (2, .int a2), (3, .int a3), (4, .int a4)] [] := by
  intro n
  induction n with
  | zero => intro a0 a2 a3 a4 S hF; cases hF
  | succ n hih =>
    intro a0 a2 a3 a4 S hF
    have hF : fX6_sundayBy_i19 (fX6_sundayBy_l19 n) a0 a2 a3 a4 S = some (r, S1) := hF
    revert hF hih
    generalize fX6_sundayBy_l19 n = ih
    intro hih hF
    unfold fX6_sundayBy_i19 at hF
    refine g_iload C 3 dX6_sundayBy_19 rfl ?_
    refine g_iload_n C 1 dX6_sundayBy_21 rfl ?_
    refine g_icmp_ge C 143 dX6_sundayBy_22 rfl hF (fun c hF => ?_) (fun c hF => ?_)
    · cases hF
      exact g_vret C dX6_sundayBy_143 rfl rfl
    · refine g_aload_n C 0 dX6_sundayBy_25 rfl ?_
      refine g_getR C dX6_sundayBy_26 fd_15 (Or.inl q2040) (Or.inl rfl) hF (fun x1 hF => ?_)
      refine g_iconst (v := (0 : Int32)) C dX6_sundayBy_29 rfl ?_
      refine g_iald C dX6_sundayBy_30 hF (fun x2 hF => ?_)
      refine g_if_le C 47 dX6_sundayBy_31 rfl hF (fun c hF => ?_) (fun c hF => ?_)
      · refine g_iconst (v := (0 : Int32)) C dX6_sundayBy_47 rfl ?_
        exact g_sub [0, 1, 2, 3] rfl (wfX6_sundayBy_j48 C hRf hRl (ih) (hih) a0 a2 a3 a4 (0 : Int32) S hF)
      · refine g_aload_n C 0 dX6_sundayBy_34 rfl ?_
        refine g_aload_n C 0 dX6_sundayBy_35 rfl ?_
        refine g_getR C dX6_sundayBy_36 fd_15 (Or.inl q2040) (Or.inl rfl) hF (fun x3 hF => ?_)
        refine g_iconst (v := (0 : Int32)) C dX6_sundayBy_39 rfl ?_
        refine g_iald C dX6_sundayBy_40 hF (fun x4 hF => ?_)
        obtain ⟨x5, S6, h, hF⟩ := gB_some hF
        obtain ⟨hi, h⟩ := gV_some h
        refine g_after (g_runV (n := 1) C dX6_sundayBy_41 rfl hi (mX6_draw C.2.2.2.2.2.2.2.2.2.2.2.1 a0 x4 S _ _ h) (lw_V q2573 q2575 qs95 q124 q2576) (by decide +kernel) ⟨by rw [hRf]; exact Nat.le_of_ble_eq_true rfl, by rw [hRl]; exact Nat.le_of_ble_eq_true rfl⟩ rfl rfl (gle gc_0 (by decide))) ?_
        refine g_goto C 48 dX6_sundayBy_44 rfl ?_
        exact g_sub [0, 1, 2, 3] rfl (wfX6_sundayBy_j48 C hRf hRl (ih) (hih) a0 a2 a3 a4 x5 S6 hF)
theorem mX6_sundayBy {l : Launch} {D : gD} {K : gK} (hl : l.stackTraces = false) : ∀ (p0 : Option Nat) (p1 : Int32) (p2 : Int32) (p3 : Int32) (S : gS) (r : Unit) (S1 : gS), fX6_sundayBy p0 p1 p2 p3 S = some (r, S1) → gMet l D K yX6_sundayBy (ws_ yX6_sundayBy cX6_sundayBy 6 (Option.none : Option Jvm.ClassFile.FieldType)) 9 285 [va_rf p0, .int p1, .int p2, .int p3] S (.inl none) S1 := by
  intro p0 p1 p2 p3 S r S1 hF
  unfold fX6_sundayBy at hF
  refine gMet.of hl (by decide +kernel) rfl (gle (lgs_r (lgs_i (lgs_i (lgs_i lgs_0)))) (by decide)) (fun p e s m below meth c R hRf hRl C _ => ?_)
  generalize hargs : ([va_rf p0, .int p1, .int p2, .int p3] : List Value).toArray = args at C ⊢
  generalize hu0 : S.2.2.1 = u0 at C ⊢
  rw [show lv_args 0 [va_rf p0, .int p1, .int p2, .int p3] = [(0, va_rf p0), (1, .int p1), (2, .int p2), (3, .int p3)] from (lva_r rfl (lva_i rfl (lva_i rfl (lva_i rfl lva_0))))]
  refine g_aload_n C 0 dX6_sundayBy_0 rfl ?_
  refine g_getR C dX6_sundayBy_1 fd_22 (Or.inl q2057) (Or.inl rfl) hF (fun x1 hF => ?_)
  refine g_aload_n C 0 dX6_sundayBy_4 rfl ?_
  refine g_getR C dX6_sundayBy_5 fd_38 (Or.inl q2058) (Or.inl rfl) hF (fun x2 hF => ?_)
  obtain ⟨x3, S4, h, hF⟩ := gB_some hF
  refine g_after (g_runS (n := 2) C dX6_sundayBy_8 (mX6_copies C.2.2.2.2.2.2.2.2.2.2.2.1 x1 x2 S _ _ h) (lw_S q2307 q2308 q124 q2309) (by decide +kernel) ⟨by rw [hRf]; exact Nat.le_of_ble_eq_true rfl, by rw [hRl]; exact Nat.le_of_ble_eq_true rfl⟩ rfl rfl (gle gc_0 (by decide))) ?_
  refine g_aload_n C 0 dX6_sundayBy_11 rfl ?_
  refine g_iload_n C 1 dX6_sundayBy_12 rfl ?_
  refine g_put C dX6_sundayBy_13 fd_58 (Or.inl q2073) (Or.inl rfl) pf_0 rfl rfl hF (fun S5 hF => ?_)
  refine g_iconst (v := (0 : Int32)) C dX6_sundayBy_16 rfl ?_
  refine g_istore C dX6_sundayBy_17 (by decide) rfl ?_
  exact g_sub [1, 3, 4, 0] rfl (wfX6_sundayBy_l19 C hRf hRl gFU p0 p2 p3 (0 : Int32) S5 hF)
/-! VowelChoirModel.sunday(IIII)I -/
def fX6_sunday_j29 (a0 : Option Nat) (a1 : Int32) (a2 : Int32) (a3 : Int32) (a4 : Int32) (t0 : Int32) (t1 : Option Nat) (S : gS) : Option (Int32 × gS) :=
  gB (gV [3] t1 S (fX6_bad t1 t0 (1 : Int32) (1 : Int32) S)) fun x1 S2 =>
  (if x1 = 0 then
  gB (gV [3] a0 S2 (fX6_sundayBy a0 a1 a2 a3 S2)) fun x3 S4 =>
  (if a4 = 0 then
  (oGetR [3] 30 a0 S4).bind fun x13 =>
  (oLdI 0 x13 (55 : Int32) S4).bind fun x14 =>
  (oGetR [3] 29 a0 S4).bind fun x15 =>
  (oLdI 0 x15 (55 : Int32) S4).bind fun x16 =>
  some (x14 - x16, S4)
  else
  (if a4 = (1 : Int32) then
  (oGetR [3] 30 a0 S4).bind fun x11 =>
  (gV [3] a0 S4 (fX6_hoarse a0 x11 S4)).bind fun x12 =>
  some (x12, S4)
  else
  (if a4 = (2 : Int32) then
  (oGetR [3] 30 a0 S4).bind fun x9 =>
  (gV [3] a0 S4 (fX6_all a0 x9 (21 : Int32) S4)).bind fun x10 =>
  some (x10, S4)
  else
  (oGetR [3] 30 a0 S4).bind fun x5 =>
  (gV [3] a0 S4 (fX6_all a0 x5 (14 : Int32) S4)).bind fun x6 =>
  (oGetR [3] 29 a0 S4).bind fun x7 =>
  (gV [3] a0 S4 (fX6_all a0 x7 (14 : Int32) S4)).bind fun x8 =>
  some (x6 - x8, S4))))
  else
  some ((0 : Int32), S2))
def fX6_sunday_j24 (a0 : Option Nat) (a1 : Int32) (a2 : Int32) (a3 : Int32) (a4 : Int32) (t0 : Option Nat) (S : gS) : Option (Int32 × gS) :=
  fX6_sunday_j29 a0 a1 a2 a3 a4 (1 : Int32) t0 S
def fX6_sunday (p0 : Option Nat) (p1 : Int32) (p2 : Int32) (p3 : Int32) (p4 : Int32) (S : gS) : Option (Int32 × gS) :=
  (oPut [3] 0 p0 (.int ((0 : Int32))) S).bind fun S1 =>
  (if (fX6_isSunday p2 p3) = 0 then
  fX6_sunday_j24 p0 p1 p2 p3 p4 p0 S1
  else
  (if (fX6_in p4 (0 : Int32) (3 : Int32)) = 0 then
  fX6_sunday_j24 p0 p1 p2 p3 p4 p0 S1
  else
  fX6_sunday_j29 p0 p1 p2 p3 p4 (0 : Int32) p0 S1))
theorem wfX6_sunday_j29 {r : Int32} {S1 : gS} (C : gCx p l R s m args meth c D K RX6 cX6_sunday 5 (Option.some Jvm.ClassFile.FieldType.int) [] "sunday" u0) (hRf : R.frames = 10) (hRl : R.locals = 310) : ∀ (a0 : Option Nat) (a1 : Int32) (a2 : Int32) (a3 : Int32) (a4 : Int32) (t0 : Int32) (t1 : Option Nat) (S : gS), fX6_sunday_j29 a0 a1 a2 a3 a4 t0 t1 S = some (r, S1) → gW p l e R s m args below meth c D K 5 u0 (gEnd below args s D K u0 (.inl (some (.int r))) S1) S 29 [(0, va_rf a0), (1, .int a1), (2, .int a2), (3, .int a3), (4, .int a4)] [.int t0, va_rf t1] := by
  intro a0 a1 a2 a3 a4 t0 t1 S hF
  unfold fX6_sunday_j29 at hF
  refine g_iconst (v := (1 : Int32)) C dX6_sunday_29 rfl ?_
  refine g_iconst (v := (1 : Int32)) C dX6_sunday_30 rfl ?_
  obtain ⟨x1, S2, h, hF⟩ := gB_some hF
  obtain ⟨hi, h⟩ := gV_some h
  refine g_after (g_runV (n := 3) C dX6_sunday_31 rfl hi (mX6_bad C.2.2.2.2.2.2.2.2.2.2.2.1 t1 t0 (1 : Int32) (1 : Int32) S _ _ h) (lw_V q2183 q2185 qs46 q124 q2186) (by decide +kernel) ⟨by rw [hRf]; exact Nat.le_of_ble_eq_true rfl, by rw [hRl]; exact Nat.le_of_ble_eq_true rfl⟩ rfl rfl (gle gc_0 (by decide))) ?_
  refine g_if_eq C 39 dX6_sunday_34 rfl hF (fun c hF => ?_) (fun c hF => ?_)
  · refine g_aload_n C 0 dX6_sunday_39 rfl ?_
    refine g_iload_n C 1 dX6_sunday_40 rfl ?_
    refine g_iload_n C 2 dX6_sunday_41 rfl ?_
    refine g_iload_n C 3 dX6_sunday_42 rfl ?_
    obtain ⟨x3, S4, h, hF⟩ := gB_some hF
    obtain ⟨hi, h⟩ := gV_some h
    refine g_after (g_runV (n := 3) C dX6_sunday_43 rfl hi (mX6_sundayBy C.2.2.2.2.2.2.2.2.2.2.2.1 a0 a1 a2 a3 S2 _ _ h) (lw_V q2569 q2571 qs94 q124 q2572) (by decide +kernel) ⟨by rw [hRf]; exact Nat.le_of_ble_eq_true rfl, by rw [hRl]; exact Nat.le_of_ble_eq_true rfl⟩ rfl rfl (gle gc_0 (by decide))) ?_
    refine g_iload C 4 dX6_sunday_46 rfl ?_
    refine g_if_ne C 69 dX6_sunday_48 rfl hF (fun c hF => ?_) (fun c hF => ?_)
    · refine g_iload C 4 dX6_sunday_69 rfl ?_
      refine g_iconst (v := (1 : Int32)) C dX6_sunday_71 rfl ?_
      refine g_icmp_ne C 86 dX6_sunday_72 rfl hF (fun c hF => ?_) (fun c hF => ?_)
      · refine g_iload C 4 dX6_sunday_86 rfl ?_
        refine g_iconst (v := (2 : Int32)) C dX6_sunday_88 rfl ?_
        refine g_icmp_ne C 105 dX6_sunday_89 rfl hF (fun c hF => ?_) (fun c hF => ?_)
        · refine g_aload_n C 0 dX6_sunday_105 rfl ?_
          refine g_aload_n C 0 dX6_sunday_106 rfl ?_
          refine g_getR C dX6_sunday_107 fd_38 (Or.inl q2058) (Or.inl rfl) hF (fun x5 hF => ?_)
          refine g_bipush (v := (14 : Int32)) C dX6_sunday_110 rfl ?_
          obtain ⟨x6, h, hF⟩ := oB hF
          obtain ⟨hi, h⟩ := gV_some h
          refine g_after (g_runV (n := 2) C dX6_sunday_112 rfl hi (mX6_all C.2.2.2.2.2.2.2.2.2.2.2.1 a0 x5 (14 : Int32) S4 _ h) (lw_V q2378 q2380 qs81 q124 q2381) (by decide +kernel) ⟨by rw [hRf]; exact Nat.le_of_ble_eq_true rfl, by rw [hRl]; exact Nat.le_of_ble_eq_true rfl⟩ rfl rfl (gle gc_0 (by decide))) ?_
          refine g_aload_n C 0 dX6_sunday_115 rfl ?_
          refine g_aload_n C 0 dX6_sunday_116 rfl ?_
          refine g_getR C dX6_sunday_117 fd_22 (Or.inl q2057) (Or.inl rfl) hF (fun x7 hF => ?_)
          refine g_bipush (v := (14 : Int32)) C dX6_sunday_120 rfl ?_
          obtain ⟨x8, h, hF⟩ := oB hF
          obtain ⟨hi, h⟩ := gV_some h
          refine g_after (g_runV (n := 2) C dX6_sunday_122 rfl hi (mX6_all C.2.2.2.2.2.2.2.2.2.2.2.1 a0 x7 (14 : Int32) S4 _ h) (lw_V q2378 q2380 qs81 q124 q2381) (by decide +kernel) ⟨by rw [hRf]; exact Nat.le_of_ble_eq_true rfl, by rw [hRl]; exact Nat.le_of_ble_eq_true rfl⟩ rfl rfl (gle (gc_i gc_0) (by decide))) ?_
          refine g_isub C dX6_sunday_125 ?_
          cases hF
          exact g_iret C dX6_sunday_126 rfl rfl
        · refine g_aload_n C 0 dX6_sunday_92 rfl ?_
          refine g_aload_n C 0 dX6_sunday_93 rfl ?_
          refine g_getR C dX6_sunday_94 fd_38 (Or.inl q2058) (Or.inl rfl) hF (fun x9 hF => ?_)
          refine g_bipush (v := (21 : Int32)) C dX6_sunday_97 rfl ?_
          obtain ⟨x10, h, hF⟩ := oB hF
          obtain ⟨hi, h⟩ := gV_some h
          refine g_after (g_runV (n := 2) C dX6_sunday_99 rfl hi (mX6_all C.2.2.2.2.2.2.2.2.2.2.2.1 a0 x9 (21 : Int32) S4 _ h) (lw_V q2378 q2380 qs81 q124 q2381) (by decide +kernel) ⟨by rw [hRf]; exact Nat.le_of_ble_eq_true rfl, by rw [hRl]; exact Nat.le_of_ble_eq_true rfl⟩ rfl rfl (gle gc_0 (by decide))) ?_
          refine g_goto C 126 dX6_sunday_102 rfl ?_
          cases hF
          exact g_iret C dX6_sunday_126 rfl rfl
      · refine g_aload_n C 0 dX6_sunday_75 rfl ?_
        refine g_aload_n C 0 dX6_sunday_76 rfl ?_
        refine g_getR C dX6_sunday_77 fd_38 (Or.inl q2058) (Or.inl rfl) hF (fun x11 hF => ?_)
        obtain ⟨x12, h, hF⟩ := oB hF
        obtain ⟨hi, h⟩ := gV_some h
        refine g_after (g_runV (n := 1) C dX6_sunday_80 rfl hi (mX6_hoarse C.2.2.2.2.2.2.2.2.2.2.2.1 a0 x11 S4 _ h) (lw_V q2374 q2376 qs80 q124 q2377) (by decide +kernel) ⟨by rw [hRf]; exact Nat.le_of_ble_eq_true rfl, by rw [hRl]; exact Nat.le_of_ble_eq_true rfl⟩ rfl rfl (gle gc_0 (by decide))) ?_
        refine g_goto C 126 dX6_sunday_83 rfl ?_
        cases hF
        exact g_iret C dX6_sunday_126 rfl rfl
    · refine g_aload_n C 0 dX6_sunday_51 rfl ?_
      refine g_getR C dX6_sunday_52 fd_38 (Or.inl q2058) (Or.inl rfl) hF (fun x13 hF => ?_)
      refine g_bipush (v := (55 : Int32)) C dX6_sunday_55 rfl ?_
      refine g_iald C dX6_sunday_57 hF (fun x14 hF => ?_)
      refine g_aload_n C 0 dX6_sunday_58 rfl ?_
      refine g_getR C dX6_sunday_59 fd_22 (Or.inl q2057) (Or.inl rfl) hF (fun x15 hF => ?_)
      refine g_bipush (v := (55 : Int32)) C dX6_sunday_62 rfl ?_
      refine g_iald C dX6_sunday_64 hF (fun x16 hF => ?_)
      refine g_isub C dX6_sunday_65 ?_
      refine g_goto C 126 dX6_sunday_66 rfl ?_
      cases hF
      exact g_iret C dX6_sunday_126 rfl rfl
  · refine g_iconst (v := (0 : Int32)) C dX6_sunday_37 rfl ?_
    cases hF
    exact g_iret C dX6_sunday_38 rfl rfl
theorem wfX6_sunday_j24 {r : Int32} {S1 : gS} (C : gCx p l R s m args meth c D K RX6 cX6_sunday 5 (Option.some Jvm.ClassFile.FieldType.int) [] "sunday" u0) (hRf : R.frames = 10) (hRl : R.locals = 310) : ∀ (a0 : Option Nat) (a1 : Int32) (a2 : Int32) (a3 : Int32) (a4 : Int32) (t0 : Option Nat) (S : gS), fX6_sunday_j24 a0 a1 a2 a3 a4 t0 S = some (r, S1) → gW p l e R s m args below meth c D K 5 u0 (gEnd below args s D K u0 (.inl (some (.int r))) S1) S 24 [(0, va_rf a0), (1, .int a1), (2, .int a2), (3, .int a3), (4, .int a4)] [va_rf t0] := by
  intro a0 a1 a2 a3 a4 t0 S hF
  unfold fX6_sunday_j24 at hF
  refine g_iconst (v := (1 : Int32)) C dX6_sunday_24 rfl ?_
  refine g_goto C 29 dX6_sunday_25 rfl ?_
  exact g_sub [0, 1, 2, 3, 4] rfl (wfX6_sunday_j29 C hRf hRl a0 a1 a2 a3 a4 (1 : Int32) t0 S hF)
theorem mX6_sunday {l : Launch} {D : gD} {K : gK} (hl : l.stackTraces = false) : ∀ (p0 : Option Nat) (p1 : Int32) (p2 : Int32) (p3 : Int32) (p4 : Int32) (S : gS) (r : Int32) (S1 : gS), fX6_sunday p0 p1 p2 p3 p4 S = some (r, S1) → gMet l D K yX6_sunday (ws_ yX6_sunday cX6_sunday 5 (Option.some Jvm.ClassFile.FieldType.int)) 10 310 [va_rf p0, .int p1, .int p2, .int p3, .int p4] S (.inl (some (.int r))) S1 := by
  intro p0 p1 p2 p3 p4 S r S1 hF
  unfold fX6_sunday at hF
  refine gMet.of hl (by decide +kernel) rfl (gle (lgs_r (lgs_i (lgs_i (lgs_i (lgs_i lgs_0))))) (by decide)) (fun p e s m below meth c R hRf hRl C _ => ?_)
  generalize hargs : ([va_rf p0, .int p1, .int p2, .int p3, .int p4] : List Value).toArray = args at C ⊢
  generalize hu0 : S.2.2.1 = u0 at C ⊢
  rw [show lv_args 0 [va_rf p0, .int p1, .int p2, .int p3, .int p4] = [(0, va_rf p0), (1, .int p1), (2, .int p2), (3, .int p3), (4, .int p4)] from (lva_r rfl (lva_i rfl (lva_i rfl (lva_i rfl (lva_i rfl lva_0)))))]
  refine g_aload_n C 0 dX6_sunday_0 rfl ?_
  refine g_iconst (v := (0 : Int32)) C dX6_sunday_1 rfl ?_
  refine g_put C dX6_sunday_2 fd_44 (Or.inl q2028) (Or.inl rfl) pf_0 rfl rfl hF (fun S1 hF => ?_)
  refine g_aload_n C 0 dX6_sunday_5 rfl ?_
  refine g_iload_n C 2 dX6_sunday_6 rfl ?_
  refine g_iload_n C 3 dX6_sunday_7 rfl ?_
  refine g_after (g_runS (n := 2) C dX6_sunday_8 (mX6_isSunday C.2.2.2.2.2.2.2.2.2.2.2.1 p2 p3 S1 _ rfl) (lw_S q2566 q2567 q124 q2568) (by decide +kernel) ⟨by rw [hRf]; exact Nat.le_of_ble_eq_true rfl, by rw [hRl]; exact Nat.le_of_ble_eq_true rfl⟩ rfl rfl (gle (gc_r gc_0) (by decide))) ?_
  refine g_if_eq C 24 dX6_sunday_11 rfl hF (fun c hF => ?_) (fun c hF => ?_)
  · exact g_sub [0, 1, 2, 3, 4] rfl (wfX6_sunday_j24 C hRf hRl p0 p1 p2 p3 p4 p0 S1 hF)
  · refine g_iload C 4 dX6_sunday_14 rfl ?_
    refine g_iconst (v := (0 : Int32)) C dX6_sunday_16 rfl ?_
    refine g_iconst (v := (3 : Int32)) C dX6_sunday_17 rfl ?_
    refine g_after (g_runS (n := 3) C dX6_sunday_18 (mX6_in C.2.2.2.2.2.2.2.2.2.2.2.1 p4 (0 : Int32) (3 : Int32) S1 _ rfl) (lw_S q2180 q2181 q124 q2182) (by decide +kernel) ⟨by rw [hRf]; exact Nat.le_of_ble_eq_true rfl, by rw [hRl]; exact Nat.le_of_ble_eq_true rfl⟩ rfl rfl (gle (gc_r gc_0) (by decide))) ?_
    refine g_if_ne C 28 dX6_sunday_21 rfl hF (fun c hF => ?_) (fun c hF => ?_)
    · refine g_iconst (v := (0 : Int32)) C dX6_sunday_28 rfl ?_
      exact g_sub [0, 1, 2, 3, 4] rfl (wfX6_sunday_j29 C hRf hRl p0 p1 p2 p3 p4 (0 : Int32) p0 S1 hF)
    · exact g_sub [0, 1, 2, 3, 4] rfl (wfX6_sunday_j24 C hRf hRl p0 p1 p2 p3 p4 p0 S1 hF)
/-! VowelChoirModel.span(IIIIII)I -/
def fX6_span_j123 (k71 : (Option Nat) → (Int32) → (Int32) → (Int32) → (Int32) → (Int32) → (Int32) → (Int32) → (Int32) → (Int32) → (Int32) → gS → Option (Int32 × gS)) (a0 : Option Nat) (a1 : Int32) (a2 : Int32) (a3 : Int32) (a4 : Int32) (a5 : Int32) (a6 : Int32) (a8 : Int32) (a9 : Int32) (a10 : Int32) (a11 : Int32) (t0 : Int32) (S : gS) : Option (Int32 × gS) :=
  (oGetR [3] 30 a0 S).bind fun x1 =>
  (oLdI 0 x1 ((7 : Int32) + a6) S).bind fun x2 =>
  k71 a0 a1 a2 a3 a4 a5 a6 t0 (fX6_more a8 a11) (a9 + x2) (a10 + (1 : Int32)) S
def fX6_span_i71 (ih : (Option Nat) → (Int32) → (Int32) → (Int32) → (Int32) → (Int32) → (Int32) → (Int32) → (Int32) → (Int32) → (Int32) → gS → Option (Int32 × gS)) (a0 : Option Nat) (a1 : Int32) (a2 : Int32) (a3 : Int32) (a4 : Int32) (a5 : Int32) (a6 : Int32) (a7 : Int32) (a8 : Int32) (a9 : Int32) (a10 : Int32) (S : gS) : Option (Int32 × gS) :=
  (if a2 ≤ a10 then
  (if a5 = 0 then
  some (a7, S)
  else
  (if a5 = (1 : Int32) then
  some (a8, S)
  else
  some (a9, S)))
  else
  gB (gV [3] a0 S (fX6_sundayBy a0 (a1 + a10) a3 a4 S)) fun x1 S2 =>
  (oGetR [3] 30 a0 S2).bind fun x3 =>
  (oLdI 0 x3 (55 : Int32) S2).bind fun x4 =>
  (oGetR [3] 29 a0 S2).bind fun x5 =>
  (oLdI 0 x5 (55 : Int32) S2).bind fun x6 =>
  (if a7 = (-1 : Int32) then
  fX6_span_j123 ih a0 a1 a2 a3 a4 a5 a6 a8 a9 a10 (x4 - x6) (x4 - x6) S2
  else
  fX6_span_j123 ih a0 a1 a2 a3 a4 a5 a6 a8 a9 a10 (x4 - x6) (fX6_less a7 (x4 - x6)) S2))
def fX6_span_l71 : Nat → (Option Nat) → (Int32) → (Int32) → (Int32) → (Int32) → (Int32) → (Int32) → (Int32) → (Int32) → (Int32) → (Int32) → gS → Option (Int32 × gS)
  | 0 => fun _ _ _ _ _ _ _ _ _ _ _ _ => none
  | n + 1 => fun a0 a1 a2 a3 a4 a5 a6 a7 a8 a9 a10 S => fX6_span_i71 (fX6_span_l71 n) a0 a1 a2 a3 a4 a5 a6 a7 a8 a9 a10 S
def fX6_span_j49 (a0 : Option Nat) (a1 : Int32) (a2 : Int32) (a3 : Int32) (a4 : Int32) (a5 : Int32) (a6 : Int32) (t0 : Int32) (t1 : Option Nat) (S : gS) : Option (Int32 × gS) :=
  gB (gV [3] t1 S (fX6_bad t1 t0 (1 : Int32) (1 : Int32) S)) fun x1 S2 =>
  (if x1 = 0 then
  fX6_span_l71 gFU a0 a1 a2 a3 a4 a5 a6 (-1 : Int32) (0 : Int32) (0 : Int32) (0 : Int32) S2
  else
  some ((0 : Int32), S2))
def fX6_span_j44 (a0 : Option Nat) (a1 : Int32) (a2 : Int32) (a3 : Int32) (a4 : Int32) (a5 : Int32) (a6 : Int32) (t0 : Option Nat) (S : gS) : Option (Int32 × gS) :=
  fX6_span_j49 a0 a1 a2 a3 a4 a5 a6 (1 : Int32) t0 S
def fX6_span (p0 : Option Nat) (p1 : Int32) (p2 : Int32) (p3 : Int32) (p4 : Int32) (p5 : Int32) (p6 : Int32) (S : gS) : Option (Int32 × gS) :=
  (oPut [3] 0 p0 (.int ((0 : Int32))) S).bind fun S1 =>
  (if (fX6_in p2 (1 : Int32) (10 : Int32)) = 0 then
  fX6_span_j44 p0 p1 p2 p3 p4 p5 p6 p0 S1
  else
  (if (fX6_isSunday p3 p4) = 0 then
  fX6_span_j44 p0 p1 p2 p3 p4 p5 p6 p0 S1
  else
  (if (fX6_in p5 (0 : Int32) (2 : Int32)) = 0 then
  fX6_span_j44 p0 p1 p2 p3 p4 p5 p6 p0 S1
  else
  (gV [3] p0 S1 (fX6_isSinger p0 p6 S1)).bind fun x2 =>
  (if x2 = 0 then
  fX6_span_j44 p0 p1 p2 p3 p4 p5 p6 p0 S1
  else
  fX6_span_j49 p0 p1 p2 p3 p4 p5 p6 (0 : Int32) p0 S1))))
theorem wfX6_span_j123 {r : Int32} {S1 : gS} (C : gCx p l R s m args meth c D K RX6 cX6_span 12 (Option.some Jvm.ClassFile.FieldType.int) [] "span" u0) (hRf : R.frames = 10) (hRl : R.locals = 310) (k71 : (Option Nat) → (Int32) → (Int32) → (Int32) → (Int32) → (Int32) → (Int32) → (Int32) → (Int32) → (Int32) → (Int32) → gS → Option (Int32 × gS)) (hk71 : ∀ (a0 : Option Nat) (a1 : Int32) (a2 : Int32) (a3 : Int32) (a4 : Int32) (a5 : Int32) (a6 : Int32) (a7 : Int32) (a8 : Int32) (a9 : Int32) (a10 : Int32) (S : gS), k71 a0 a1 a2 a3 a4 a5 a6 a7 a8 a9 a10 S = some (r, S1) → gW p l e R s m args below meth c D K 12 u0 (gEnd below args s D K u0 (.inl (some (.int r))) S1) S 71 [(0, va_rf a0), (1, .int a1), (2, .int a2), (3, .int a3), (4, .int a4), (5, .int a5), (6, .int a6), (7, .int a7), (8, .int a8), (9, .int a9), (10, .int a10)] []) : ∀ (a0 : Option Nat) (a1 : Int32) (a2 : Int32) (a3 : Int32) (a4 : Int32) (a5 : Int32) (a6 : Int32) (a8 : Int32) (a9 : Int32) (a10 : Int32) (a11 : Int32) (t0 : Int32) (S : gS), fX6_span_j123 k71 a0 a1 a2 a3 a4 a5 a6 a8 a9 a10 a11 t0 S = some (r, S1) → gW p l e R s m args below meth c D K 12 u0 (gEnd below args s D K u0 (.inl (some (.int r))) S1) S 123 [(0, va_rf a0), (1, .int a1), (2, .int a2), (3, .int a3), (4, .int a4), (5, .int a5), (6, .int a6), (8, .int a8), (9, .int a9), (10, .int a10), (11, .int a11)] [.int t0] := by
  intro a0 a1 a2 a3 a4 a5 a6 a8 a9 a10 a11 t0 S hF
  unfold fX6_span_j123 at hF
  refine g_istore C dX6_span_123 (by decide) rfl ?_
  refine g_iload C 8 dX6_span_125 rfl ?_
  refine g_iload C 11 dX6_span_127 rfl ?_
  refine g_after (g_runS (n := 2) C dX6_span_129 (mX6_more C.2.2.2.2.2.2.2.2.2.2.2.1 a8 a11 S _ rfl) (lw_S q2344 q2345 q124 q2346) (by decide +kernel) ⟨by rw [hRf]; exact Nat.le_of_ble_eq_true rfl, by rw [hRl]; exact Nat.le_of_ble_eq_true rfl⟩ rfl rfl (gle gc_0 (by decide))) ?_
  refine g_istore C dX6_span_132 (by decide) rfl ?_
  refine g_iload C 9 dX6_span_134 rfl ?_
  refine g_aload_n C 2 dX6_span_136 rfl ?_
  refine g_getR C dX6_span_137 fd_38 (Or.inl q2058) (Or.inl rfl) hF (fun x1 hF => ?_)
  refine g_bipush (v := (7 : Int32)) C dX6_span_140 rfl ?_
  refine g_iload C 8 dX6_span_142 rfl ?_
  refine g_iadd C dX6_span_144 ?_
  refine g_iald C dX6_span_145 hF (fun x2 hF => ?_)
  refine g_iadd C dX6_span_146 ?_
  refine g_istore C dX6_span_147 (by decide) rfl ?_
  refine g_iinc (v := (1 : Int32)) C 10 dX6_span_149 rfl rfl (by decide) rfl ?_
  refine g_goto C 71 dX6_span_152 rfl ?_
  exact g_sub [4, 5, 6, 7, 8, 9, 10, 3, 2, 1, 0] rfl (hk71 a0 a1 a2 a3 a4 a5 a6 t0 (fX6_more a8 a11) (a9 + x2) (a10 + (1 : Int32)) S hF)
theorem wfX6_span_l71 {r : Int32} {S1 : gS} (C : gCx p l R s m args meth c D K RX6 cX6_span 12 (Option.some Jvm.ClassFile.FieldType.int) [] "span" u0) (hRf : R.frames = 10) (hRl : R.locals = 310) : ∀ (n : Nat) (a0 : Option Nat) (a1 : Int32) (a2 : Int32) (a3 : Int32) (a4 : Int32) (a5 : Int32) (a6 : Int32) (a7 : Int32) (a8 : Int32) (a9 : Int32) (a10 : Int32) (S : gS), fX6_span_l71 n a0 a1 a2 a3 a4 a5 a6 a7 a8 a9 a10 S = some (r, S1) → gW p l e R s m args below meth c D K 12 u0 (gEnd below args s D K u0 (.inl (some (.int r))) S1) S 71 [(0, va_rf a0), (1, .int a1), (2, .int a2), (3, .int a3), (4, .int a4), (5, .int a5), (6, .int a6), (7, .int a7), (8, .int a8), (9, .int a9), (10, .int a10)] [] := by
  intro n
  induction n with
  | zero => intro a0 a1 a2 a3 a4 a5 a6 a7 a8 a9 a10 S hF; cases hF
  | succ n hih =>
    intro a0 a1 a2 a3 a4 a5 a6 a7 a8 a9 a10 S hF
    have hF : fX6_span_i71 (fX6_span_l71 n) a0 a1 a2 a3 a4 a5 a6 a7 a8 a9 a10 S = some (r, S1) := hF
    revert hF hih
    generalize fX6_span_l71 n = ih
    intro hih hF
    unfold fX6_span_i71 at hF
    refine g_iload C 10 dX6_span_71 rfl ?_
    refine g_iload_n C 2 dX6_span_73 rfl ?_
    refine g_icmp_ge C 155 dX6_span_74 rfl hF (fun c hF => ?_) (fun c hF => ?_)
    · refine g_iload C 5 dX6_span_155 rfl ?_
      refine g_if_ne C 165 dX6_span_157 rfl hF (fun c hF => ?_) (fun c hF => ?_)
      · refine g_iload C 5 dX6_span_165 rfl ?_
        refine g_iconst (v := (1 : Int32)) C dX6_span_167 rfl ?_
        refine g_icmp_ne C 176 dX6_span_168 rfl hF (fun c hF => ?_) (fun c hF => ?_)
        · refine g_iload C 9 dX6_span_176 rfl ?_
          cases hF
          exact g_iret C dX6_span_178 rfl rfl
        · refine g_iload C 8 dX6_span_171 rfl ?_
          refine g_goto C 178 dX6_span_173 rfl ?_
          cases hF
          exact g_iret C dX6_span_178 rfl rfl
      · refine g_iload C 7 dX6_span_160 rfl ?_
        refine g_goto C 178 dX6_span_162 rfl ?_
        cases hF
        exact g_iret C dX6_span_178 rfl rfl
    · refine g_aload_n C 0 dX6_span_77 rfl ?_
      refine g_iload_n C 1 dX6_span_78 rfl ?_
      refine g_iload C 10 dX6_span_79 rfl ?_
      refine g_iadd C dX6_span_81 ?_
      refine g_iload_n C 3 dX6_span_82 rfl ?_
      refine g_iload C 4 dX6_span_83 rfl ?_
      obtain ⟨x1, S2, h, hF⟩ := gB_some hF
      obtain ⟨hi, h⟩ := gV_some h
      refine g_after (g_runV (n := 3) C dX6_span_85 rfl hi (mX6_sundayBy C.2.2.2.2.2.2.2.2.2.2.2.1 a0 (a1 + a10) a3 a4 S _ _ h) (lw_V q2569 q2571 qs94 q124 q2572) (by decide +kernel) ⟨by rw [hRf]; exact Nat.le_of_ble_eq_true rfl, by rw [hRl]; exact Nat.le_of_ble_eq_true rfl⟩ rfl rfl (gle gc_0 (by decide))) ?_
      refine g_aload_n C 0 dX6_span_88 rfl ?_
      refine g_getR C dX6_span_89 fd_38 (Or.inl q2058) (Or.inl rfl) hF (fun x3 hF => ?_)
      refine g_bipush (v := (55 : Int32)) C dX6_span_92 rfl ?_
      refine g_iald C dX6_span_94 hF (fun x4 hF => ?_)
      refine g_aload_n C 0 dX6_span_95 rfl ?_
      refine g_getR C dX6_span_96 fd_22 (Or.inl q2057) (Or.inl rfl) hF (fun x5 hF => ?_)
      refine g_bipush (v := (55 : Int32)) C dX6_span_99 rfl ?_
      refine g_iald C dX6_span_101 hF (fun x6 hF => ?_)
      refine g_isub C dX6_span_102 ?_
      refine g_istore C dX6_span_103 (by decide) rfl ?_
      refine g_iload C 8 dX6_span_105 rfl ?_
      refine g_iconst (v := (-1 : Int32)) C dX6_span_107 rfl ?_
      refine g_icmp_ne C 116 dX6_span_108 rfl hF (fun c hF => ?_) (fun c hF => ?_)
      · refine g_iload C 8 dX6_span_116 rfl ?_
        refine g_iload C 0 dX6_span_118 rfl ?_
        refine g_after (g_runS (n := 2) C dX6_span_120 (mX6_less C.2.2.2.2.2.2.2.2.2.2.2.1 a7 (x4 - x6) S2 _ rfl) (lw_S q2341 q2342 q124 q2343) (by decide +kernel) ⟨by rw [hRf]; exact Nat.le_of_ble_eq_true rfl, by rw [hRl]; exact Nat.le_of_ble_eq_true rfl⟩ rfl rfl (gle gc_0 (by decide))) ?_
        exact g_sub [1, 2, 3, 4, 5, 6, 7, 9, 10, 11, 0] rfl (wfX6_span_j123 C hRf hRl (ih) (hih) a0 a1 a2 a3 a4 a5 a6 a8 a9 a10 (x4 - x6) (fX6_less a7 (x4 - x6)) S2 hF)
      · refine g_iload C 0 dX6_span_111 rfl ?_
        refine g_goto C 123 dX6_span_113 rfl ?_
        exact g_sub [1, 2, 3, 4, 5, 6, 7, 9, 10, 11, 0] rfl (wfX6_span_j123 C hRf hRl (ih) (hih) a0 a1 a2 a3 a4 a5 a6 a8 a9 a10 (x4 - x6) (x4 - x6) S2 hF)
theorem wfX6_span_j49 {r : Int32} {S1 : gS} (C : gCx p l R s m args meth c D K RX6 cX6_span 12 (Option.some Jvm.ClassFile.FieldType.int) [] "span" u0) (hRf : R.frames = 10) (hRl : R.locals = 310) : ∀ (a0 : Option Nat) (a1 : Int32) (a2 : Int32) (a3 : Int32) (a4 : Int32) (a5 : Int32) (a6 : Int32) (t0 : Int32) (t1 : Option Nat) (S : gS), fX6_span_j49 a0 a1 a2 a3 a4 a5 a6 t0 t1 S = some (r, S1) → gW p l e R s m args below meth c D K 12 u0 (gEnd below args s D K u0 (.inl (some (.int r))) S1) S 49 [(0, va_rf a0), (1, .int a1), (2, .int a2), (3, .int a3), (4, .int a4), (5, .int a5), (6, .int a6)] [.int t0, va_rf t1] := by
  intro a0 a1 a2 a3 a4 a5 a6 t0 t1 S hF
  unfold fX6_span_j49 at hF
  refine g_iconst (v := (1 : Int32)) C dX6_span_49 rfl ?_
  refine g_iconst (v := (1 : Int32)) C dX6_span_50 rfl ?_
  obtain ⟨x1, S2, h, hF⟩ := gB_some hF
  obtain ⟨hi, h⟩ := gV_some h
  refine g_after (g_runV (n := 3) C dX6_span_51 rfl hi (mX6_bad C.2.2.2.2.2.2.2.2.2.2.2.1 t1 t0 (1 : Int32) (1 : Int32) S _ _ h) (lw_V q2183 q2185 qs46 q124 q2186) (by decide +kernel) ⟨by rw [hRf]; exact Nat.le_of_ble_eq_true rfl, by rw [hRl]; exact Nat.le_of_ble_eq_true rfl⟩ rfl rfl (gle gc_0 (by decide))) ?_
  refine g_if_eq C 59 dX6_span_54 rfl hF (fun c hF => ?_) (fun c hF => ?_)
  · refine g_iconst (v := (-1 : Int32)) C dX6_span_59 rfl ?_
    refine g_istore C dX6_span_60 (by decide) rfl ?_
    refine g_iconst (v := (0 : Int32)) C dX6_span_62 rfl ?_
    refine g_istore C dX6_span_63 (by decide) rfl ?_
    refine g_iconst (v := (0 : Int32)) C dX6_span_65 rfl ?_
    refine g_istore C dX6_span_66 (by decide) rfl ?_
    refine g_iconst (v := (0 : Int32)) C dX6_span_68 rfl ?_
    refine g_istore C dX6_span_69 (by decide) rfl ?_
    exact g_sub [4, 5, 6, 7, 8, 9, 10, 3, 2, 1, 0] rfl (wfX6_span_l71 C hRf hRl gFU a0 a1 a2 a3 a4 a5 a6 (-1 : Int32) (0 : Int32) (0 : Int32) (0 : Int32) S2 hF)
  · refine g_iconst (v := (0 : Int32)) C dX6_span_57 rfl ?_
    cases hF
    exact g_iret C dX6_span_58 rfl rfl
theorem wfX6_span_j44 {r : Int32} {S1 : gS} (C : gCx p l R s m args meth c D K RX6 cX6_span 12 (Option.some Jvm.ClassFile.FieldType.int) [] "span" u0) (hRf : R.frames = 10) (hRl : R.locals = 310) : ∀ (a0 : Option Nat) (a1 : Int32) (a2 : Int32) (a3 : Int32) (a4 : Int32) (a5 : Int32) (a6 : Int32) (t0 : Option Nat) (S : gS), fX6_span_j44 a0 a1 a2 a3 a4 a5 a6 t0 S = some (r, S1) → gW p l e R s m args below meth c D K 12 u0 (gEnd below args s D K u0 (.inl (some (.int r))) S1) S 44 [(0, va_rf a0), (1, .int a1), (2, .int a2), (3, .int a3), (4, .int a4), (5, .int a5), (6, .int a6)] [va_rf t0] := by
  intro a0 a1 a2 a3 a4 a5 a6 t0 S hF
  unfold fX6_span_j44 at hF
  refine g_iconst (v := (1 : Int32)) C dX6_span_44 rfl ?_
  refine g_goto C 49 dX6_span_45 rfl ?_
  exact g_sub [0, 1, 2, 3, 4, 5, 6] rfl (wfX6_span_j49 C hRf hRl a0 a1 a2 a3 a4 a5 a6 (1 : Int32) t0 S hF)
theorem mX6_span {l : Launch} {D : gD} {K : gK} (hl : l.stackTraces = false) : ∀ (p0 : Option Nat) (p1 : Int32) (p2 : Int32) (p3 : Int32) (p4 : Int32) (p5 : Int32) (p6 : Int32) (S : gS) (r : Int32) (S1 : gS), fX6_span p0 p1 p2 p3 p4 p5 p6 S = some (r, S1) → gMet l D K yX6_span (ws_ yX6_span cX6_span 12 (Option.some Jvm.ClassFile.FieldType.int)) 10 310 [va_rf p0, .int p1, .int p2, .int p3, .int p4, .int p5, .int p6] S (.inl (some (.int r))) S1 := by
  intro p0 p1 p2 p3 p4 p5 p6 S r S1 hF
  unfold fX6_span at hF
  refine gMet.of hl (by decide +kernel) rfl (gle (lgs_r (lgs_i (lgs_i (lgs_i (lgs_i (lgs_i (lgs_i lgs_0))))))) (by decide)) (fun p e s m below meth c R hRf hRl C _ => ?_)
  generalize hargs : ([va_rf p0, .int p1, .int p2, .int p3, .int p4, .int p5, .int p6] : List Value).toArray = args at C ⊢
  generalize hu0 : S.2.2.1 = u0 at C ⊢
  rw [show lv_args 0 [va_rf p0, .int p1, .int p2, .int p3, .int p4, .int p5, .int p6] = [(0, va_rf p0), (1, .int p1), (2, .int p2), (3, .int p3), (4, .int p4), (5, .int p5), (6, .int p6)] from (lva_r rfl (lva_i rfl (lva_i rfl (lva_i rfl (lva_i rfl (lva_i rfl (lva_i rfl lva_0)))))))]
  refine g_aload_n C 0 dX6_span_0 rfl ?_
  refine g_iconst (v := (0 : Int32)) C dX6_span_1 rfl ?_
  refine g_put C dX6_span_2 fd_44 (Or.inl q2028) (Or.inl rfl) pf_0 rfl rfl hF (fun S1 hF => ?_)
  refine g_aload_n C 0 dX6_span_5 rfl ?_
  refine g_iload_n C 2 dX6_span_6 rfl ?_
  refine g_iconst (v := (1 : Int32)) C dX6_span_7 rfl ?_
  refine g_bipush (v := (10 : Int32)) C dX6_span_8 rfl ?_
  refine g_after (g_runS (n := 3) C dX6_span_10 (mX6_in C.2.2.2.2.2.2.2.2.2.2.2.1 p2 (1 : Int32) (10 : Int32) S1 _ rfl) (lw_S q2180 q2181 q124 q2182) (by decide +kernel) ⟨by rw [hRf]; exact Nat.le_of_ble_eq_true rfl, by rw [hRl]; exact Nat.le_of_ble_eq_true rfl⟩ rfl rfl (gle (gc_r gc_0) (by decide))) ?_
  refine g_if_eq C 44 dX6_span_13 rfl hF (fun c hF => ?_) (fun c hF => ?_)
  · exact g_sub [0, 1, 2, 3, 4, 5, 6] rfl (wfX6_span_j44 C hRf hRl p0 p1 p2 p3 p4 p5 p6 p0 S1 hF)
  · refine g_iload_n C 3 dX6_span_16 rfl ?_
    refine g_iload C 4 dX6_span_17 rfl ?_
    refine g_after (g_runS (n := 2) C dX6_span_19 (mX6_isSunday C.2.2.2.2.2.2.2.2.2.2.2.1 p3 p4 S1 _ rfl) (lw_S q2566 q2567 q124 q2568) (by decide +kernel) ⟨by rw [hRf]; exact Nat.le_of_ble_eq_true rfl, by rw [hRl]; exact Nat.le_of_ble_eq_true rfl⟩ rfl rfl (gle (gc_r gc_0) (by decide))) ?_
    refine g_if_eq C 44 dX6_span_22 rfl hF (fun c hF => ?_) (fun c hF => ?_)
    · exact g_sub [0, 1, 2, 3, 4, 5, 6] rfl (wfX6_span_j44 C hRf hRl p0 p1 p2 p3 p4 p5 p6 p0 S1 hF)
    · refine g_iload C 5 dX6_span_25 rfl ?_
      refine g_iconst (v := (0 : Int32)) C dX6_span_27 rfl ?_
      refine g_iconst (v := (2 : Int32)) C dX6_span_28 rfl ?_
      refine g_after (g_runS (n := 3) C dX6_span_29 (mX6_in C.2.2.2.2.2.2.2.2.2.2.2.1 p5 (0 : Int32) (2 : Int32) S1 _ rfl) (lw_S q2180 q2181 q124 q2182) (by decide +kernel) ⟨by rw [hRf]; exact Nat.le_of_ble_eq_true rfl, by rw [hRl]; exact Nat.le_of_ble_eq_true rfl⟩ rfl rfl (gle (gc_r gc_0) (by decide))) ?_
      refine g_if_eq C 44 dX6_span_32 rfl hF (fun c hF => ?_) (fun c hF => ?_)
      · exact g_sub [0, 1, 2, 3, 4, 5, 6] rfl (wfX6_span_j44 C hRf hRl p0 p1 p2 p3 p4 p5 p6 p0 S1 hF)
      · refine g_aload_n C 0 dX6_span_35 rfl ?_
        refine g_iload C 6 dX6_span_36 rfl ?_
        obtain ⟨x2, h, hF⟩ := oB hF
        obtain ⟨hi, h⟩ := gV_some h
        refine g_after (g_runV (n := 1) C dX6_span_38 rfl hi (mX6_isSinger C.2.2.2.2.2.2.2.2.2.2.2.1 p0 p6 S1 _ h) (lw_V q2386 q2388 qs82 q124 q2389) (by decide +kernel) ⟨by rw [hRf]; exact Nat.le_of_ble_eq_true rfl, by rw [hRl]; exact Nat.le_of_ble_eq_true rfl⟩ rfl rfl (gle (gc_r gc_0) (by decide))) ?_
        refine g_if_ne C 48 dX6_span_41 rfl hF (fun c hF => ?_) (fun c hF => ?_)
        · refine g_iconst (v := (0 : Int32)) C dX6_span_48 rfl ?_
          exact g_sub [0, 1, 2, 3, 4, 5, 6] rfl (wfX6_span_j49 C hRf hRl p0 p1 p2 p3 p4 p5 p6 (0 : Int32) p0 S1 hF)
        · exact g_sub [0, 1, 2, 3, 4, 5, 6] rfl (wfX6_span_j44 C hRf hRl p0 p1 p2 p3 p4 p5 p6 p0 S1 hF)
/-! VowelChoirModel.puts([IIZ)I -/
def fX6_puts_j11 (a0 : Option Nat) (a1 : Option Nat) (S : gS) : Option (Int32 × gS) :=
  (oGetI [3] 37 a0 S).bind fun x1 =>
  (oPut [3] 37 a0 (.int (x1 + (1 : Int32))) S).bind fun S2 =>
  (oGetI [3] 37 a0 S2).bind fun x3 =>
  (oLdI 0 a1 (x3 - (1 : Int32)) S2).bind fun x4 =>
  some (x4, S2)
def fX6_puts (p0 : Option Nat) (p1 : Option Nat) (p2 : Int32) (p3 : Int32) (S : gS) : Option (Int32 × gS) :=
  (if p3 = 0 then
  (oGetI [3] 37 p0 S).bind fun x1 =>
  (oStI 0 p1 x1 p2 S).bind fun S2 =>
  fX6_puts_j11 p0 p1 S2
  else
  fX6_puts_j11 p0 p1 S)
theorem wfX6_puts_j11 {r : Int32} {S1 : gS} (C : gCx p l R s m args meth c D K RX6 cX6_puts 4 (Option.some Jvm.ClassFile.FieldType.int) [] "puts" u0) (hRf : R.frames = 1) (hRl : R.locals = 100) : ∀ (a0 : Option Nat) (a1 : Option Nat) (S : gS), fX6_puts_j11 a0 a1 S = some (r, S1) → gW p l e R s m args below meth c D K 4 u0 (gEnd below args s D K u0 (.inl (some (.int r))) S1) S 11 [(0, va_rf a0), (1, va_rf a1)] [] := by
  intro a0 a1 S hF
  unfold fX6_puts_j11 at hF
  refine g_aload_n C 0 dX6_puts_11 rfl ?_
  refine g_dup C dX6_puts_12 (g_cr _) ?_
  refine g_getI C dX6_puts_13 fd_59 (Or.inl q2065) (Or.inl rfl) hF (fun x1 hF => ?_)
  refine g_iconst (v := (1 : Int32)) C dX6_puts_16 rfl ?_
  refine g_iadd C dX6_puts_17 ?_
  refine g_put C dX6_puts_18 fd_59 (Or.inl q2065) (Or.inl rfl) pf_0 rfl rfl hF (fun S2 hF => ?_)
  refine g_aload_n C 1 dX6_puts_21 rfl ?_
  refine g_aload_n C 0 dX6_puts_22 rfl ?_
  refine g_getI C dX6_puts_23 fd_59 (Or.inl q2065) (Or.inl rfl) hF (fun x3 hF => ?_)
  refine g_iconst (v := (1 : Int32)) C dX6_puts_26 rfl ?_
  refine g_isub C dX6_puts_27 ?_
  refine g_iald C dX6_puts_28 hF (fun x4 hF => ?_)
  cases hF
  exact g_iret C dX6_puts_29 rfl rfl
theorem mX6_puts {l : Launch} {D : gD} {K : gK} (hl : l.stackTraces = false) : ∀ (p0 : Option Nat) (p1 : Option Nat) (p2 : Int32) (p3 : Int32) (S : gS) (r : Int32) (S1 : gS), fX6_puts p0 p1 p2 p3 S = some (r, S1) → gMet l D K yX6_puts (ws_ yX6_puts cX6_puts 4 (Option.some Jvm.ClassFile.FieldType.int)) 1 100 [va_rf p0, va_rf p1, .int p2, .int p3] S (.inl (some (.int r))) S1 := by
  intro p0 p1 p2 p3 S r S1 hF
  unfold fX6_puts at hF
  refine gMet.of hl (by decide +kernel) rfl (gle (lgs_r (lgs_r (lgs_i (lgs_i lgs_0)))) (by decide)) (fun p e s m below meth c R hRf hRl C _ => ?_)
  generalize hargs : ([va_rf p0, va_rf p1, .int p2, .int p3] : List Value).toArray = args at C ⊢
  generalize hu0 : S.2.2.1 = u0 at C ⊢
  rw [show lv_args 0 [va_rf p0, va_rf p1, .int p2, .int p3] = [(0, va_rf p0), (1, va_rf p1), (2, .int p2), (3, .int p3)] from (lva_r rfl (lva_r rfl (lva_i rfl (lva_i rfl lva_0))))]
  refine g_iload_n C 3 dX6_puts_0 rfl ?_
  refine g_if_ne C 11 dX6_puts_1 rfl hF (fun c hF => ?_) (fun c hF => ?_)
  · exact g_sub [0, 1] rfl (wfX6_puts_j11 C hRf hRl p0 p1 S hF)
  · refine g_aload_n C 1 dX6_puts_4 rfl ?_
    refine g_aload_n C 0 dX6_puts_5 rfl ?_
    refine g_getI C dX6_puts_6 fd_59 (Or.inl q2065) (Or.inl rfl) hF (fun x1 hF => ?_)
    refine g_iload_n C 2 dX6_puts_9 rfl ?_
    refine g_iast C dX6_puts_10 hF (fun S2 hF => ?_)
    exact g_sub [0, 1] rfl (wfX6_puts_j11 C hRf hRl p0 p1 S2 hF)
/-! VowelChoirModel.putsAll([IZ)V -/
def fX6_putsAll_i62 (k53 : (Option Nat) → (Option Nat) → (Int32) → (Int32) → gS → Option (Unit × gS)) (ih : (Option Nat) → (Option Nat) → (Int32) → (Int32) → (Int32) → gS → Option (Unit × gS)) (a0 : Option Nat) (a1 : Option Nat) (a2 : Int32) (a3 : Int32) (a4 : Int32) (S : gS) : Option (Unit × gS) :=
  (if (57 : Int32) ≤ a4 then
  k53 a0 a1 a2 (a3 + (1 : Int32)) S
  else
  (oGetR [3] 31 a0 S).bind fun x1 =>
  (oLdR 5 x1 a3 S).bind fun x2 =>
  (oGetR [3] 31 a0 S).bind fun x3 =>
  (oLdR 5 x3 a3 S).bind fun x4 =>
  (oLdI 0 x4 a4 S).bind fun x5 =>
  gB (gV [3] a0 S (fX6_puts a0 a1 x5 a2 S)) fun x6 S7 =>
  (oStI 0 x2 a4 x6 S7).bind fun S8 =>
  ih a0 a1 a2 a3 (a4 + (1 : Int32)) S8)
def fX6_putsAll_l62 (k53 : (Option Nat) → (Option Nat) → (Int32) → (Int32) → gS → Option (Unit × gS)) : Nat → (Option Nat) → (Option Nat) → (Int32) → (Int32) → (Int32) → gS → Option (Unit × gS)
  | 0 => fun _ _ _ _ _ _ => none
  | n + 1 => fun a0 a1 a2 a3 a4 S => fX6_putsAll_i62 k53 (fX6_putsAll_l62 k53 n) a0 a1 a2 a3 a4 S
def fX6_putsAll_i53 (ih : (Option Nat) → (Option Nat) → (Int32) → (Int32) → gS → Option (Unit × gS)) (a0 : Option Nat) (a1 : Option Nat) (a2 : Int32) (a3 : Int32) (S : gS) : Option (Unit × gS) :=
  (if (16 : Int32) ≤ a3 then
  some ((), S)
  else
  fX6_putsAll_l62 ih gFU a0 a1 a2 a3 (0 : Int32) S)
def fX6_putsAll_l53 : Nat → (Option Nat) → (Option Nat) → (Int32) → (Int32) → gS → Option (Unit × gS)
  | 0 => fun _ _ _ _ _ => none
  | n + 1 => fun a0 a1 a2 a3 S => fX6_putsAll_i53 (fX6_putsAll_l53 n) a0 a1 a2 a3 S
def fX6_putsAll_i21 (ih : (Option Nat) → (Option Nat) → (Int32) → (Int32) → gS → Option (Unit × gS)) (a0 : Option Nat) (a1 : Option Nat) (a2 : Int32) (a3 : Int32) (S : gS) : Option (Unit × gS) :=
  (if (57 : Int32) ≤ a3 then
  fX6_putsAll_l53 gFU a0 a1 a2 (0 : Int32) S
  else
  (oGetR [3] 29 a0 S).bind fun x1 =>
  (oGetR [3] 29 a0 S).bind fun x2 =>
  (oLdI 0 x2 a3 S).bind fun x3 =>
  gB (gV [3] a0 S (fX6_puts a0 a1 x3 a2 S)) fun x4 S5 =>
  (oStI 0 x1 a3 x4 S5).bind fun S6 =>
  ih a0 a1 a2 (a3 + (1 : Int32)) S6)
def fX6_putsAll_l21 : Nat → (Option Nat) → (Option Nat) → (Int32) → (Int32) → gS → Option (Unit × gS)
  | 0 => fun _ _ _ _ _ => none
  | n + 1 => fun a0 a1 a2 a3 S => fX6_putsAll_i21 (fX6_putsAll_l21 n) a0 a1 a2 a3 S
def fX6_putsAll (p0 : Option Nat) (p1 : Option Nat) (p2 : Int32) (S : gS) : Option (Unit × gS) :=
  (oPut [3] 37 p0 (.int ((0 : Int32))) S).bind fun S1 =>
  (oGetI [3] 34 p0 S1).bind fun x2 =>
  gB (gV [3] p0 S1 (fX6_puts p0 p1 x2 p2 S1)) fun x3 S4 =>
  (oPut [3] 34 p0 (.int x3) S4).bind fun S5 =>
  fX6_putsAll_l21 gFU p0 p1 p2 (0 : Int32) S5
theorem wfX6_putsAll_l62 {r : Unit} {S1 : gS} (C : gCx p l R s m args meth c D K RX6 cX6_putsAll 5 (Option.none : Option Jvm.ClassFile.FieldType) [] "putsAll" u0) (hRf : R.frames = 2) (hRl : R.locals = 123) (k53 : (Option Nat) → (Option Nat) → (Int32) → (Int32) → gS → Option (Unit × gS)) (hk53 : ∀ (a0 : Option Nat) (a1 : Option Nat) (a2 : Int32) (a3 : Int32) (S : gS), k53 a0 a1 a2 a3 S = some (r, S1) → gW p l e R s m args below meth c D K 5 u0 (gEnd below args s D K u0 (.inl none) S1) S 53 [(0, va_rf a0), (1, va_rf a1), (2, .int a2), (3, .int a3)] []) : ∀ (n : Nat) (a0 : Option Nat) (a1 : Option Nat) (a2 : Int32) (a3 : Int32) (a4 : Int32) (S : gS), fX6_putsAll_l62 k53 n a0 a1 a2 a3 a4 S = some (r, S1) → gW p l e R s m args below meth c D K 5 u0 (gEnd below args s D K u0 (.inl none) S1) S 62 [(0, va_rf a0), (1, va_rf a1), (2, .int a2), (3, .int a3), (4, .int a4)] [] := by
  intro n
  induction n with
  | zero => intro a0 a1 a2 a3 a4 S hF; cases hF
  | succ n hih =>
    intro a0 a1 a2 a3 a4 S hF
    have hF : fX6_putsAll_i62 k53 (fX6_putsAll_l62 k53 n) a0 a1 a2 a3 a4 S = some (r, S1) := hF
    revert hF hih
    generalize fX6_putsAll_l62 k53 n = ih
    intro hih hF
    unfold fX6_putsAll_i62 at hF
    refine g_iload C 4 dX6_putsAll_62 rfl ?_
    refine g_bipush (v := (57 : Int32)) C dX6_putsAll_64 rfl ?_
    refine g_icmp_ge C 99 dX6_putsAll_66 rfl hF (fun c hF => ?_) (fun c hF => ?_)
    · refine g_iinc (v := (1 : Int32)) C 3 dX6_putsAll_99 rfl rfl (by decide) rfl ?_
      refine g_goto C 53 dX6_putsAll_102 rfl ?_
      exact g_sub [1, 2, 3, 0] rfl (hk53 a0 a1 a2 (a3 + (1 : Int32)) S hF)
    · refine g_aload_n C 0 dX6_putsAll_69 rfl ?_
      refine g_getR C dX6_putsAll_70 fd_39 (Or.inl q2059) (Or.inl rfl) hF (fun x1 hF => ?_)
      refine g_iload_n C 3 dX6_putsAll_73 rfl ?_
      refine g_aald C (kd := 5) rfl dX6_putsAll_74 hF (fun x2 hF => ?_)
      refine g_iload C 4 dX6_putsAll_75 rfl ?_
      refine g_aload_n C 0 dX6_putsAll_77 rfl ?_
      refine g_aload_n C 1 dX6_putsAll_78 rfl ?_
      refine g_aload_n C 0 dX6_putsAll_79 rfl ?_
      refine g_getR C dX6_putsAll_80 fd_39 (Or.inl q2059) (Or.inl rfl) hF (fun x3 hF => ?_)
      refine g_iload_n C 3 dX6_putsAll_83 rfl ?_
      refine g_aald C (kd := 5) rfl dX6_putsAll_84 hF (fun x4 hF => ?_)
      refine g_iload C 4 dX6_putsAll_85 rfl ?_
      refine g_iald C dX6_putsAll_87 hF (fun x5 hF => ?_)
      refine g_iload_n C 2 dX6_putsAll_88 rfl ?_
      obtain ⟨x6, S7, h, hF⟩ := gB_some hF
      obtain ⟨hi, h⟩ := gV_some h
      refine g_after (g_runV (n := 3) C dX6_putsAll_89 rfl hi (mX6_puts C.2.2.2.2.2.2.2.2.2.2.2.1 a0 a1 x5 a2 S _ _ h) (lw_V q2590 q2592 qs97 q124 q2593) (by decide +kernel) ⟨by rw [hRf]; exact Nat.le_of_ble_eq_true rfl, by rw [hRl]; exact Nat.le_of_ble_eq_true rfl⟩ rfl rfl (gle (gc_i (gc_r gc_0)) (by decide))) ?_
      refine g_iast C dX6_putsAll_92 hF (fun S8 hF => ?_)
      refine g_iinc (v := (1 : Int32)) C 4 dX6_putsAll_93 rfl rfl (by decide) rfl ?_
      refine g_goto C 62 dX6_putsAll_96 rfl ?_
      exact g_sub [1, 2, 3, 4, 0] rfl (hih a0 a1 a2 a3 (a4 + (1 : Int32)) S8 hF)
theorem wfX6_putsAll_l53 {r : Unit} {S1 : gS} (C : gCx p l R s m args meth c D K RX6 cX6_putsAll 5 (Option.none : Option Jvm.ClassFile.FieldType) [] "putsAll" u0) (hRf : R.frames = 2) (hRl : R.locals = 123) : ∀ (n : Nat) (a0 : Option Nat) (a1 : Option Nat) (a2 : Int32) (a3 : Int32) (S : gS), fX6_putsAll_l53 n a0 a1 a2 a3 S = some (r, S1) → gW p l e R s m args below meth c D K 5 u0 (gEnd below args s D K u0 (.inl none) S1) S 53 [(0, va_rf a0), (1, va_rf a1), (2, .int a2), (3, .int a3)] [] := by
  intro n
  induction n with
  | zero => intro a0 a1 a2 a3 S hF; cases hF
  | succ n hih =>
    intro a0 a1 a2 a3 S hF
    have hF : fX6_putsAll_i53 (fX6_putsAll_l53 n) a0 a1 a2 a3 S = some (r, S1) := hF
    revert hF hih
    generalize fX6_putsAll_l53 n = ih
    intro hih hF
    unfold fX6_putsAll_i53 at hF
    refine g_iload_n C 3 dX6_putsAll_53 rfl ?_
    refine g_bipush (v := (16 : Int32)) C dX6_putsAll_54 rfl ?_
    refine g_icmp_ge C 105 dX6_putsAll_56 rfl hF (fun c hF => ?_) (fun c hF => ?_)
    · cases hF
      exact g_vret C dX6_putsAll_105 rfl rfl
    · refine g_iconst (v := (0 : Int32)) C dX6_putsAll_59 rfl ?_
      refine g_istore C dX6_putsAll_60 (by decide) rfl ?_
      exact g_sub [1, 2, 3, 4, 0] rfl (wfX6_putsAll_l62 C hRf hRl (ih) (hih) gFU a0 a1 a2 a3 (0 : Int32) S hF)
theorem wfX6_putsAll_l21 {r : Unit} {S1 : gS} (C : gCx p l R s m args meth c D K RX6 cX6_putsAll 5 (Option.none : Option Jvm.ClassFile.FieldType) [] "putsAll" u0) (hRf : R.frames = 2) (hRl : R.locals = 123) : ∀ (n : Nat) (a0 : Option Nat) (a1 : Option Nat) (a2 : Int32) (a3 : Int32) (S : gS), fX6_putsAll_l21 n a0 a1 a2 a3 S = some (r, S1) → gW p l e R s m args below meth c D K 5 u0 (gEnd below args s D K u0 (.inl none) S1) S 21 [(0, va_rf a0), (1, va_rf a1), (2, .int a2), (3, .int a3)] [] := by
  intro n
  induction n with
  | zero => intro a0 a1 a2 a3 S hF; cases hF
  | succ n hih =>
    intro a0 a1 a2 a3 S hF
    have hF : fX6_putsAll_i21 (fX6_putsAll_l21 n) a0 a1 a2 a3 S = some (r, S1) := hF
    revert hF hih
    generalize fX6_putsAll_l21 n = ih
    intro hih hF
    unfold fX6_putsAll_i21 at hF
    refine g_iload_n C 3 dX6_putsAll_21 rfl ?_
    refine g_bipush (v := (57 : Int32)) C dX6_putsAll_22 rfl ?_
    refine g_icmp_ge C 51 dX6_putsAll_24 rfl hF (fun c hF => ?_) (fun c hF => ?_)
    · refine g_iconst (v := (0 : Int32)) C dX6_putsAll_51 rfl ?_
      refine g_istore_n C dX6_putsAll_52 (by decide) rfl ?_
      exact g_sub [1, 2, 3, 0] rfl (wfX6_putsAll_l53 C hRf hRl gFU a0 a1 a2 (0 : Int32) S hF)
    · refine g_aload_n C 0 dX6_putsAll_27 rfl ?_
      refine g_getR C dX6_putsAll_28 fd_22 (Or.inl q2057) (Or.inl rfl) hF (fun x1 hF => ?_)
      refine g_iload_n C 3 dX6_putsAll_31 rfl ?_
      refine g_aload_n C 0 dX6_putsAll_32 rfl ?_
      refine g_aload_n C 1 dX6_putsAll_33 rfl ?_
      refine g_aload_n C 0 dX6_putsAll_34 rfl ?_
      refine g_getR C dX6_putsAll_35 fd_22 (Or.inl q2057) (Or.inl rfl) hF (fun x2 hF => ?_)
      refine g_iload_n C 3 dX6_putsAll_38 rfl ?_
      refine g_iald C dX6_putsAll_39 hF (fun x3 hF => ?_)
      refine g_iload_n C 2 dX6_putsAll_40 rfl ?_
      obtain ⟨x4, S5, h, hF⟩ := gB_some hF
      obtain ⟨hi, h⟩ := gV_some h
      refine g_after (g_runV (n := 3) C dX6_putsAll_41 rfl hi (mX6_puts C.2.2.2.2.2.2.2.2.2.2.2.1 a0 a1 x3 a2 S _ _ h) (lw_V q2590 q2592 qs97 q124 q2593) (by decide +kernel) ⟨by rw [hRf]; exact Nat.le_of_ble_eq_true rfl, by rw [hRl]; exact Nat.le_of_ble_eq_true rfl⟩ rfl rfl (gle (gc_i (gc_r gc_0)) (by decide))) ?_
      refine g_iast C dX6_putsAll_44 hF (fun S6 hF => ?_)
      refine g_iinc (v := (1 : Int32)) C 3 dX6_putsAll_45 rfl rfl (by decide) rfl ?_
      refine g_goto C 21 dX6_putsAll_48 rfl ?_
      exact g_sub [1, 2, 3, 0] rfl (hih a0 a1 a2 (a3 + (1 : Int32)) S6 hF)
theorem mX6_putsAll {l : Launch} {D : gD} {K : gK} (hl : l.stackTraces = false) : ∀ (p0 : Option Nat) (p1 : Option Nat) (p2 : Int32) (S : gS) (r : Unit) (S1 : gS), fX6_putsAll p0 p1 p2 S = some (r, S1) → gMet l D K yX6_putsAll (ws_ yX6_putsAll cX6_putsAll 5 (Option.none : Option Jvm.ClassFile.FieldType)) 2 123 [va_rf p0, va_rf p1, .int p2] S (.inl none) S1 := by
  intro p0 p1 p2 S r S1 hF
  unfold fX6_putsAll at hF
  refine gMet.of hl (by decide +kernel) rfl (gle (lgs_r (lgs_r (lgs_i lgs_0))) (by decide)) (fun p e s m below meth c R hRf hRl C _ => ?_)
  generalize hargs : ([va_rf p0, va_rf p1, .int p2] : List Value).toArray = args at C ⊢
  generalize hu0 : S.2.2.1 = u0 at C ⊢
  rw [show lv_args 0 [va_rf p0, va_rf p1, .int p2] = [(0, va_rf p0), (1, va_rf p1), (2, .int p2)] from (lva_r rfl (lva_r rfl (lva_i rfl lva_0)))]
  refine g_aload_n C 0 dX6_putsAll_0 rfl ?_
  refine g_iconst (v := (0 : Int32)) C dX6_putsAll_1 rfl ?_
  refine g_put C dX6_putsAll_2 fd_59 (Or.inl q2065) (Or.inl rfl) pf_0 rfl rfl hF (fun S1 hF => ?_)
  refine g_aload_n C 0 dX6_putsAll_5 rfl ?_
  refine g_aload_n C 0 dX6_putsAll_6 rfl ?_
  refine g_aload_n C 1 dX6_putsAll_7 rfl ?_
  refine g_aload_n C 0 dX6_putsAll_8 rfl ?_
  refine g_getI C dX6_putsAll_9 fd_25 (Or.inl q2062) (Or.inl rfl) hF (fun x2 hF => ?_)
  refine g_iload_n C 2 dX6_putsAll_12 rfl ?_
  obtain ⟨x3, S4, h, hF⟩ := gB_some hF
  obtain ⟨hi, h⟩ := gV_some h
  refine g_after (g_runV (n := 3) C dX6_putsAll_13 rfl hi (mX6_puts C.2.2.2.2.2.2.2.2.2.2.2.1 p0 p1 x2 p2 S1 _ _ h) (lw_V q2590 q2592 qs97 q124 q2593) (by decide +kernel) ⟨by rw [hRf]; exact Nat.le_of_ble_eq_true rfl, by rw [hRl]; exact Nat.le_of_ble_eq_true rfl⟩ rfl rfl (gle (gc_r gc_0) (by decide))) ?_
  refine g_put C dX6_putsAll_16 fd_25 (Or.inl q2062) (Or.inl rfl) pf_0 rfl rfl hF (fun S5 hF => ?_)
  refine g_iconst (v := (0 : Int32)) C dX6_putsAll_19 rfl ?_
  refine g_istore_n C dX6_putsAll_20 (by decide) rfl ?_
  exact g_sub [1, 2, 3, 0] rfl (wfX6_putsAll_l21 C hRf hRl gFU p0 p1 p2 (0 : Int32) S5 hF)
/-! VowelChoirModel.image()I -/
def fX6_image (p0 : Option Nat) (S : gS) : Option (Int32 × gS) :=
  (oPut [3] 0 p0 (.int ((0 : Int32))) S).bind fun S1 =>
  (oGetI [3] 36 p0 S1).bind fun x2 =>
  (if x2 = (3 : Int32) then
  some ((-1 : Int32), S1)
  else
  (oGetR [3] 32 p0 S1).bind fun x3 =>
  (oGetI [3] 36 p0 S1).bind fun x4 =>
  (oLdR 5 x3 x4 S1).bind fun x5 =>
  gB (gV [3] p0 S1 (fX6_putsAll p0 x5 (0 : Int32) S1)) fun x6 S7 =>
  (oGetI [3] 36 p0 S7).bind fun x8 =>
  (oPut [3] 36 p0 (.int (x8 + (1 : Int32))) S7).bind fun S9 =>
  (oGetI [3] 36 p0 S9).bind fun x10 =>
  some (x10, S9))
theorem mX6_image {l : Launch} {D : gD} {K : gK} (hl : l.stackTraces = false) : ∀ (p0 : Option Nat) (S : gS) (r : Int32) (S1 : gS), fX6_image p0 S = some (r, S1) → gMet l D K yX6_image (ws_ yX6_image cX6_image 1 (Option.some Jvm.ClassFile.FieldType.int)) 3 147 [va_rf p0] S (.inl (some (.int r))) S1 := by
  intro p0 S r S1 hF
  unfold fX6_image at hF
  refine gMet.of hl (by decide +kernel) rfl (gle (lgs_r lgs_0) (by decide)) (fun p e s m below meth c R hRf hRl C _ => ?_)
  generalize hargs : ([va_rf p0] : List Value).toArray = args at C ⊢
  generalize hu0 : S.2.2.1 = u0 at C ⊢
  rw [show lv_args 0 [va_rf p0] = [(0, va_rf p0)] from (lva_r rfl lva_0)]
  refine g_aload_n C 0 dX6_image_0 rfl ?_
  refine g_iconst (v := (0 : Int32)) C dX6_image_1 rfl ?_
  refine g_put C dX6_image_2 fd_44 (Or.inl q2028) (Or.inl rfl) pf_0 rfl rfl hF (fun S1 hF => ?_)
  refine g_aload_n C 0 dX6_image_5 rfl ?_
  refine g_getI C dX6_image_6 fd_27 (Or.inl q2064) (Or.inl rfl) hF (fun x2 hF => ?_)
  refine g_iconst (v := (3 : Int32)) C dX6_image_9 rfl ?_
  refine g_icmp_ne C 15 dX6_image_10 rfl hF (fun c hF => ?_) (fun c hF => ?_)
  · refine g_aload_n C 0 dX6_image_15 rfl ?_
    refine g_aload_n C 0 dX6_image_16 rfl ?_
    refine g_getR C dX6_image_17 fd_40 (Or.inl q2060) (Or.inl rfl) hF (fun x3 hF => ?_)
    refine g_aload_n C 0 dX6_image_20 rfl ?_
    refine g_getI C dX6_image_21 fd_27 (Or.inl q2064) (Or.inl rfl) hF (fun x4 hF => ?_)
    refine g_aald C (kd := 5) rfl dX6_image_24 hF (fun x5 hF => ?_)
    refine g_iconst (v := (0 : Int32)) C dX6_image_25 rfl ?_
    obtain ⟨x6, S7, h, hF⟩ := gB_some hF
    obtain ⟨hi, h⟩ := gV_some h
    refine g_after (g_runV (n := 2) C dX6_image_26 rfl hi (mX6_putsAll C.2.2.2.2.2.2.2.2.2.2.2.1 p0 x5 (0 : Int32) S1 _ _ h) (lw_V q2586 q2588 qs96 q124 q2589) (by decide +kernel) ⟨by rw [hRf]; exact Nat.le_of_ble_eq_true rfl, by rw [hRl]; exact Nat.le_of_ble_eq_true rfl⟩ rfl rfl (gle gc_0 (by decide))) ?_
    refine g_aload_n C 0 dX6_image_29 rfl ?_
    refine g_dup C dX6_image_30 (g_cr _) ?_
    refine g_getI C dX6_image_31 fd_27 (Or.inl q2064) (Or.inl rfl) hF (fun x8 hF => ?_)
    refine g_iconst (v := (1 : Int32)) C dX6_image_34 rfl ?_
    refine g_iadd C dX6_image_35 ?_
    refine g_put C dX6_image_36 fd_27 (Or.inl q2064) (Or.inl rfl) pf_0 rfl rfl hF (fun S9 hF => ?_)
    refine g_aload_n C 0 dX6_image_39 rfl ?_
    refine g_getI C dX6_image_40 fd_27 (Or.inl q2064) (Or.inl rfl) hF (fun x10 hF => ?_)
    cases hF
    exact g_iret C dX6_image_43 rfl rfl
  · refine g_iconst (v := (-1 : Int32)) C dX6_image_13 rfl ?_
    cases hF
    exact g_iret C dX6_image_14 rfl rfl
/-! VowelChoirModel.restore()I -/
def fX6_restore (p0 : Option Nat) (S : gS) : Option (Int32 × gS) :=
  (oPut [3] 0 p0 (.int ((0 : Int32))) S).bind fun S1 =>
  (oGetI [3] 36 p0 S1).bind fun x2 =>
  (if x2 = 0 then
  some ((-1 : Int32), S1)
  else
  (oGetI [3] 36 p0 S1).bind fun x3 =>
  (oPut [3] 36 p0 (.int (x3 - (1 : Int32))) S1).bind fun S4 =>
  (oGetR [3] 32 p0 S4).bind fun x5 =>
  (oGetI [3] 36 p0 S4).bind fun x6 =>
  (oLdR 5 x5 x6 S4).bind fun x7 =>
  gB (gV [3] p0 S4 (fX6_putsAll p0 x7 (1 : Int32) S4)) fun x8 S9 =>
  (oPut [3] 35 p0 (.int ((0 : Int32))) S9).bind fun S10 =>
  (oGetI [3] 36 p0 S10).bind fun x11 =>
  some (x11, S10))
theorem mX6_restore {l : Launch} {D : gD} {K : gK} (hl : l.stackTraces = false) : ∀ (p0 : Option Nat) (S : gS) (r : Int32) (S1 : gS), fX6_restore p0 S = some (r, S1) → gMet l D K yX6_restore (ws_ yX6_restore cX6_restore 1 (Option.some Jvm.ClassFile.FieldType.int)) 3 147 [va_rf p0] S (.inl (some (.int r))) S1 := by
  intro p0 S r S1 hF
  unfold fX6_restore at hF
  refine gMet.of hl (by decide +kernel) rfl (gle (lgs_r lgs_0) (by decide)) (fun p e s m below meth c R hRf hRl C _ => ?_)
  generalize hargs : ([va_rf p0] : List Value).toArray = args at C ⊢
  generalize hu0 : S.2.2.1 = u0 at C ⊢
  rw [show lv_args 0 [va_rf p0] = [(0, va_rf p0)] from (lva_r rfl lva_0)]
  refine g_aload_n C 0 dX6_restore_0 rfl ?_
  refine g_iconst (v := (0 : Int32)) C dX6_restore_1 rfl ?_
  refine g_put C dX6_restore_2 fd_44 (Or.inl q2028) (Or.inl rfl) pf_0 rfl rfl hF (fun S1 hF => ?_)
  refine g_aload_n C 0 dX6_restore_5 rfl ?_
  refine g_getI C dX6_restore_6 fd_27 (Or.inl q2064) (Or.inl rfl) hF (fun x2 hF => ?_)
  refine g_if_ne C 14 dX6_restore_9 rfl hF (fun c hF => ?_) (fun c hF => ?_)
  · refine g_aload_n C 0 dX6_restore_14 rfl ?_
    refine g_dup C dX6_restore_15 (g_cr _) ?_
    refine g_getI C dX6_restore_16 fd_27 (Or.inl q2064) (Or.inl rfl) hF (fun x3 hF => ?_)
    refine g_iconst (v := (1 : Int32)) C dX6_restore_19 rfl ?_
    refine g_isub C dX6_restore_20 ?_
    refine g_put C dX6_restore_21 fd_27 (Or.inl q2064) (Or.inl rfl) pf_0 rfl rfl hF (fun S4 hF => ?_)
    refine g_aload_n C 0 dX6_restore_24 rfl ?_
    refine g_aload_n C 0 dX6_restore_25 rfl ?_
    refine g_getR C dX6_restore_26 fd_40 (Or.inl q2060) (Or.inl rfl) hF (fun x5 hF => ?_)
    refine g_aload_n C 0 dX6_restore_29 rfl ?_
    refine g_getI C dX6_restore_30 fd_27 (Or.inl q2064) (Or.inl rfl) hF (fun x6 hF => ?_)
    refine g_aald C (kd := 5) rfl dX6_restore_33 hF (fun x7 hF => ?_)
    refine g_iconst (v := (1 : Int32)) C dX6_restore_34 rfl ?_
    obtain ⟨x8, S9, h, hF⟩ := gB_some hF
    obtain ⟨hi, h⟩ := gV_some h
    refine g_after (g_runV (n := 2) C dX6_restore_35 rfl hi (mX6_putsAll C.2.2.2.2.2.2.2.2.2.2.2.1 p0 x7 (1 : Int32) S4 _ _ h) (lw_V q2586 q2588 qs96 q124 q2589) (by decide +kernel) ⟨by rw [hRf]; exact Nat.le_of_ble_eq_true rfl, by rw [hRl]; exact Nat.le_of_ble_eq_true rfl⟩ rfl rfl (gle gc_0 (by decide))) ?_
    refine g_aload_n C 0 dX6_restore_38 rfl ?_
    refine g_iconst (v := (0 : Int32)) C dX6_restore_39 rfl ?_
    refine g_put C dX6_restore_40 fd_26 (Or.inl q2063) (Or.inl rfl) pf_0 rfl rfl hF (fun S10 hF => ?_)
    refine g_aload_n C 0 dX6_restore_43 rfl ?_
    refine g_getI C dX6_restore_44 fd_27 (Or.inl q2064) (Or.inl rfl) hF (fun x11 hF => ?_)
    cases hF
    exact g_iret C dX6_restore_47 rfl rfl
  · refine g_iconst (v := (-1 : Int32)) C dX6_restore_12 rfl ?_
    cases hF
    exact g_iret C dX6_restore_13 rfl rfl
/-! VowelChoirModel.status(I)I -/
def fX6_status (p0 : Option Nat) (p1 : Int32) (S : gS) : Option (Int32 × gS) :=
  (oPut [3] 0 p0 (.int ((0 : Int32))) S).bind fun S1 =>
  (if (fX6_in p1 (0 : Int32) (1 : Int32)) = 0 then
  some ((-1 : Int32), S1)
  else
  (oGetR [3] 10 p0 S1).bind fun x2 =>
  (oLdI 0 x2 p1 S1).bind fun x3 =>
  some (x3, S1))
theorem mX6_status {l : Launch} {D : gD} {K : gK} (hl : l.stackTraces = false) : ∀ (p0 : Option Nat) (p1 : Int32) (S : gS) (r : Int32) (S1 : gS), fX6_status p0 p1 S = some (r, S1) → gMet l D K yX6_status (ws_ yX6_status cX6_status 2 (Option.some Jvm.ClassFile.FieldType.int)) 2 122 [va_rf p0, .int p1] S (.inl (some (.int r))) S1 := by
  intro p0 p1 S r S1 hF
  unfold fX6_status at hF
  refine gMet.of hl (by decide +kernel) rfl (gle (lgs_r (lgs_i lgs_0)) (by decide)) (fun p e s m below meth c R hRf hRl C _ => ?_)
  generalize hargs : ([va_rf p0, .int p1] : List Value).toArray = args at C ⊢
  generalize hu0 : S.2.2.1 = u0 at C ⊢
  rw [show lv_args 0 [va_rf p0, .int p1] = [(0, va_rf p0), (1, .int p1)] from (lva_r rfl (lva_i rfl lva_0))]
  refine g_aload_n C 0 dX6_status_0 rfl ?_
  refine g_iconst (v := (0 : Int32)) C dX6_status_1 rfl ?_
  refine g_put C dX6_status_2 fd_44 (Or.inl q2028) (Or.inl rfl) pf_0 rfl rfl hF (fun S1 hF => ?_)
  refine g_iload_n C 1 dX6_status_5 rfl ?_
  refine g_iconst (v := (0 : Int32)) C dX6_status_6 rfl ?_
  refine g_iconst (v := (1 : Int32)) C dX6_status_7 rfl ?_
  refine g_after (g_runS (n := 3) C dX6_status_8 (mX6_in C.2.2.2.2.2.2.2.2.2.2.2.1 p1 (0 : Int32) (1 : Int32) S1 _ rfl) (lw_S q2180 q2181 q124 q2182) (by decide +kernel) ⟨by rw [hRf]; exact Nat.le_of_ble_eq_true rfl, by rw [hRl]; exact Nat.le_of_ble_eq_true rfl⟩ rfl rfl (gle gc_0 (by decide))) ?_
  refine g_if_eq C 23 dX6_status_11 rfl hF (fun c hF => ?_) (fun c hF => ?_)
  · refine g_iconst (v := (-1 : Int32)) C dX6_status_23 rfl ?_
    cases hF
    exact g_iret C dX6_status_24 rfl rfl
  · refine g_aload_n C 0 dX6_status_14 rfl ?_
    refine g_getR C dX6_status_15 fd_30 (Or.inl q2038) (Or.inl rfl) hF (fun x2 hF => ?_)
    refine g_iload_n C 1 dX6_status_18 rfl ?_
    refine g_iald C dX6_status_19 hF (fun x3 hF => ?_)
    refine g_goto C 24 dX6_status_20 rfl ?_
    cases hF
    exact g_iret C dX6_status_24 rfl rfl
/-! VowelChoirModel.count(I)I -/
def fX6_count (p0 : Option Nat) (p1 : Int32) (S : gS) : Option (Int32 × gS) :=
  (oPut [3] 0 p0 (.int ((0 : Int32))) S).bind fun S1 =>
  (if p1 = 0 then
  (oGetI [3] 36 p0 S1).bind fun x4 =>
  some (x4, S1)
  else
  (if p1 = (1 : Int32) then
  (oGetI [3] 1 p0 S1).bind fun x3 =>
  some (x3, S1)
  else
  (if p1 = (2 : Int32) then
  (oGetI [3] 34 p0 S1).bind fun x2 =>
  some (x2, S1)
  else
  some ((-1 : Int32), S1))))
theorem mX6_count {l : Launch} {D : gD} {K : gK} (hl : l.stackTraces = false) : ∀ (p0 : Option Nat) (p1 : Int32) (S : gS) (r : Int32) (S1 : gS), fX6_count p0 p1 S = some (r, S1) → gMet l D K yX6_count (ws_ yX6_count cX6_count 2 (Option.some Jvm.ClassFile.FieldType.int)) 1 100 [va_rf p0, .int p1] S (.inl (some (.int r))) S1 := by
  intro p0 p1 S r S1 hF
  unfold fX6_count at hF
  refine gMet.of hl (by decide +kernel) rfl (gle (lgs_r (lgs_i lgs_0)) (by decide)) (fun p e s m below meth c R hRf hRl C _ => ?_)
  generalize hargs : ([va_rf p0, .int p1] : List Value).toArray = args at C ⊢
  generalize hu0 : S.2.2.1 = u0 at C ⊢
  rw [show lv_args 0 [va_rf p0, .int p1] = [(0, va_rf p0), (1, .int p1)] from (lva_r rfl (lva_i rfl lva_0))]
  refine g_aload_n C 0 dX6_count_0 rfl ?_
  refine g_iconst (v := (0 : Int32)) C dX6_count_1 rfl ?_
  refine g_put C dX6_count_2 fd_44 (Or.inl q2028) (Or.inl rfl) pf_0 rfl rfl hF (fun S1 hF => ?_)
  refine g_iload_n C 1 dX6_count_5 rfl ?_
  refine g_if_ne C 16 dX6_count_6 rfl hF (fun c hF => ?_) (fun c hF => ?_)
  · refine g_iload_n C 1 dX6_count_16 rfl ?_
    refine g_iconst (v := (1 : Int32)) C dX6_count_17 rfl ?_
    refine g_icmp_ne C 28 dX6_count_18 rfl hF (fun c hF => ?_) (fun c hF => ?_)
    · refine g_iload_n C 1 dX6_count_28 rfl ?_
      refine g_iconst (v := (2 : Int32)) C dX6_count_29 rfl ?_
      refine g_icmp_ne C 40 dX6_count_30 rfl hF (fun c hF => ?_) (fun c hF => ?_)
      · refine g_iconst (v := (-1 : Int32)) C dX6_count_40 rfl ?_
        cases hF
        exact g_iret C dX6_count_41 rfl rfl
      · refine g_aload_n C 0 dX6_count_33 rfl ?_
        refine g_getI C dX6_count_34 fd_25 (Or.inl q2062) (Or.inl rfl) hF (fun x2 hF => ?_)
        refine g_goto C 41 dX6_count_37 rfl ?_
        cases hF
        exact g_iret C dX6_count_41 rfl rfl
    · refine g_aload_n C 0 dX6_count_21 rfl ?_
      refine g_getI C dX6_count_22 fd_45 (Or.inl q2029) (Or.inl rfl) hF (fun x3 hF => ?_)
      refine g_goto C 41 dX6_count_25 rfl ?_
      cases hF
      exact g_iret C dX6_count_41 rfl rfl
  · refine g_aload_n C 0 dX6_count_9 rfl ?_
    refine g_getI C dX6_count_10 fd_27 (Or.inl q2064) (Or.inl rfl) hF (fun x4 hF => ?_)
    refine g_goto C 41 dX6_count_13 rfl ?_
    cases hF
    exact g_iret C dX6_count_41 rfl rfl
end s17_model
