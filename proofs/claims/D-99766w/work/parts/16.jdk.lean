set_option maxRecDepth 100000
set_option maxHeartbeats 2000000
theorem fd_0 : gFd [28] 0 "java/util/AbstractList" "modCount" "I" false := gFd_of (by decide +kernel)
theorem fd_1 : gFd [28] 1 "java/util/ArrayList" "elementData" "[Ljava/lang/Object;" false := gFd_of (by decide +kernel)
theorem fd_2 : gFd [28] 2 "java/util/ArrayList" "size" "I" false := gFd_of (by decide +kernel)
theorem fd_3 : gFd [5] 0 "java/lang/Throwable" "cause" "Ljava/lang/Throwable;" false := gFd_of (by decide +kernel)
theorem fd_4 : gFd [5] 1 "java/lang/Throwable" "stackTrace" "[Ljava/lang/StackTraceElement;" false := gFd_of (by decide +kernel)
theorem fd_5 : gFd [5] 2 "java/lang/Throwable" "suppressedExceptions" "Ljava/util/List;" false := gFd_of (by decide +kernel)
theorem fd_6 : gFd [5] 3 "java/lang/Throwable" "detailMessage" "Ljava/lang/String;" false := gFd_of (by decide +kernel)
theorem fd_7 : gFd [29] 0 "java/lang/AbstractStringBuilder" "value" "[B" false := gFd_of (by decide +kernel)
theorem fd_8 : gFd [29] 1 "java/lang/AbstractStringBuilder" "coder" "B" false := gFd_of (by decide +kernel)
theorem fd_9 : gFd [29] 3 "java/lang/AbstractStringBuilder" "count" "I" false := gFd_of (by decide +kernel)
theorem fd_10 : gFd [30] 1 "java/lang/String" "coder" "B" true := gFd_of (by decide +kernel)
theorem fd_11 : gFd [30] 0 "java/lang/String" "value" "[B" true := gFd_of (by decide +kernel)
theorem fd_12 : gFd [30] 2 "java/lang/String" "hash" "I" false := gFd_of (by decide +kernel)
theorem fd_13 : gFd [30] 3 "java/lang/String" "hashIsZero" "Z" false := gFd_of (by decide +kernel)
theorem pf_0 : parseFieldDescriptor "I" = some .int := by decide +kernel
theorem pf_1 : parseFieldDescriptor "[Ljava/lang/Object;" = some (.array (.object "java/lang/Object")) := by decide +kernel
theorem pf_2 : parseFieldDescriptor "Ljava/util/List;" = some (.object "java/util/List") := by decide +kernel
theorem pf_3 : parseFieldDescriptor "Ljava/lang/Throwable;" = some (.object "java/lang/Throwable") := by decide +kernel
theorem pf_4 : parseFieldDescriptor "Ljava/lang/String;" = some (.object "java/lang/String") := by decide +kernel
theorem pf_5 : parseFieldDescriptor "[Ljava/lang/StackTraceElement;" = some (.array (.object "java/lang/StackTraceElement")) := by decide +kernel
theorem pf_6 : parseFieldDescriptor "B" = some .byte := by decide +kernel
theorem pf_7 : parseFieldDescriptor "[B" = some (.array .byte) := by decide +kernel
theorem pf_8 : parseFieldDescriptor "Z" = some .boolean := by decide +kernel
theorem cast_java_lang_String : ∀ ci : Nat, ([30] : List Nat).contains ci = true → ∃ r1 : vw_C, gCl[ci]? = some r1 ∧ (r1.1 = "java/lang/String" ∨ Cond.castable r1.1 "java/lang/String" ∈ lw_tbl) := by
  intro ci h
  rcases gMem1 h with rfl
  · exact ⟨_, rfl, Or.inl rfl⟩
theorem inst_java_lang_String : ∀ ci : Nat, ([30] : List Nat).contains ci = true → ∃ r1 : vw_C, gCl[ci]? = some r1 ∧ r1.1 = "java/lang/String" := by
  intro ci h
  rcases gMem1 h with rfl
  · exact ⟨_, rfl, rfl⟩
theorem ast_3 : ∀ ci : Nat, ([6, 7, 8, 20, 21, 22, 23, 24, 25, 26] : List Nat).contains ci = true → ∃ r1 : vw_C, gCl[ci]? = some r1 ∧ (r1.1 = "java/lang/Object" ∨ Cond.castable r1.1 "java/lang/Object" ∈ lw_tbl) := by
  intro ci h
  rcases gMem10 h with rfl | rfl | rfl | rfl | rfl | rfl | rfl | rfl | rfl | rfl
  · exact ⟨_, rfl, Or.inr q2647⟩
  · exact ⟨_, rfl, Or.inr q2648⟩
  · exact ⟨_, rfl, Or.inr q2649⟩
  · exact ⟨_, rfl, Or.inr q2660⟩
  · exact ⟨_, rfl, Or.inr q2661⟩
  · exact ⟨_, rfl, Or.inr q2662⟩
  · exact ⟨_, rfl, Or.inr q2663⟩
  · exact ⟨_, rfl, Or.inr q2664⟩
  · exact ⟨_, rfl, Or.inr q2665⟩
  · exact ⟨_, rfl, Or.inr q2666⟩
theorem seln_J7_append_3_11 : ∀ ci : Nat, ([29] : List Nat).contains ci = true → ∃ (T : u_T) (N : Nat) (Cn : String), gCl[ci]? = some (Cn, T, N) ∧ Cond.selects Cn ⟨"java/lang/AbstractStringBuilder", "isLatin1", "()Z"⟩ yJ7_isLatin1 ∈ lw_all := by
  intro ci h
  rcases gMem1 h with rfl
  · exact ⟨_, _, _, rfl, q306⟩
theorem seln_J9_init_2_16 : ∀ ci : Nat, ([29] : List Nat).contains ci = true → ∃ (T : u_T) (N : Nat) (Cn : String), gCl[ci]? = some (Cn, T, N) ∧ Cond.selects Cn ⟨"java/lang/AbstractStringBuilder", "isLatin1", "()Z"⟩ yJ7_isLatin1 ∈ lw_all := by
  intro ci h
  rcases gMem1 h with rfl
  · exact ⟨_, _, _, rfl, q306⟩
theorem seln_J9_init_2_10 : ∀ ci : Nat, ([29] : List Nat).contains ci = true → ∃ (T : u_T) (N : Nat) (Cn : String), gCl[ci]? = some (Cn, T, N) ∧ Cond.selects Cn ⟨"java/lang/AbstractStringBuilder", "length", "()I"⟩ yJ8_length ∈ lw_all := by
  intro ci h
  rcases gMem1 h with rfl
  · exact ⟨_, _, _, rfl, q423⟩
theorem seln_J9_init_2_5 : ∀ ci : Nat, ([29] : List Nat).contains ci = true → ∃ (T : u_T) (N : Nat) (Cn : String), gCl[ci]? = some (Cn, T, N) ∧ Cond.selects Cn ⟨"java/lang/AbstractStringBuilder", "getValue", "()[B"⟩ yJ7_getValue ∈ lw_all := by
  intro ci h
  rcases gMem1 h with rfl
  · exact ⟨_, _, _, rfl, q418⟩
section s16_jdk
variable {p : Program} {l : Launch} {e : Env} {R : Room} {s : State} {m : MethodId} {args : Array Value} {below : List Frame} {meth : Method} {c : Code} {D : gD} {K : gK} {u0 : Nat}
/-! java/util/AbstractCollection.<init>()V -/
def fJ0_init (p0 : Option Nat) (S : gS) : Option Unit :=
  (if p0.isSome = true then
  some ()
  else none)
theorem mJ0_init {l : Launch} {D : gD} {K : gK} (hl : l.stackTraces = false) : ∀ (p0 : Option Nat) (S : gS) (r : Unit), fJ0_init p0 S = some r → gMet l D K yJ0_init (ws_ yJ0_init cJ0_init 1 (Option.none : Option Jvm.ClassFile.FieldType)) 1 100 [va_rf p0] S (.inl none) S := by
  intro p0 S r hF
  unfold fJ0_init at hF
  refine gMet.of hl (by decide +kernel) rfl (gle (lgs_r lgs_0) (by decide)) (fun p e s m below meth c R hRf hRl C _ => ?_)
  generalize hargs : ([va_rf p0] : List Value).toArray = args at C ⊢
  generalize hu0 : S.2.2.1 = u0 at C ⊢
  rw [show lv_args 0 [va_rf p0] = [(0, va_rf p0)] from (lva_r rfl lva_0)]
  refine g_aload_n C 0 dJ0_init_0 rfl ?_
  obtain ⟨hi, hF⟩ := gIf hF
  refine g_objInit C dJ0_init_1 hi q178 q159 q160 ⟨by rw [hRf]; exact Nat.le_of_ble_eq_true rfl, by rw [hRl]; exact Nat.le_of_ble_eq_true rfl⟩ (gle gc_0 (by decide)) ?_
  cases hF
  exact g_vret C dJ0_init_4 rfl rfl
/-! java/util/AbstractList.<init>()V -/
def fJ1_init (p0 : Option Nat) (S : gS) : Option (Unit × gS) :=
  (gN p0 (fJ0_init p0 S)).bind fun x1 =>
  (oPut [28] 0 p0 (.int ((0 : Int32))) S).bind fun S2 =>
  some ((), S2)
theorem mJ1_init {l : Launch} {D : gD} {K : gK} (hl : l.stackTraces = false) : ∀ (p0 : Option Nat) (S : gS) (r : Unit) (S1 : gS), fJ1_init p0 S = some (r, S1) → gMet l D K yJ1_init (ws_ yJ1_init cJ1_init 1 (Option.none : Option Jvm.ClassFile.FieldType)) 2 120 [va_rf p0] S (.inl none) S1 := by
  intro p0 S r S1 hF
  unfold fJ1_init at hF
  refine gMet.of hl (by decide +kernel) rfl (gle (lgs_r lgs_0) (by decide)) (fun p e s m below meth c R hRf hRl C _ => ?_)
  generalize hargs : ([va_rf p0] : List Value).toArray = args at C ⊢
  generalize hu0 : S.2.2.1 = u0 at C ⊢
  rw [show lv_args 0 [va_rf p0] = [(0, va_rf p0)] from (lva_r rfl lva_0)]
  refine g_aload_n C 0 dJ1_init_0 rfl ?_
  obtain ⟨x1, h, hF⟩ := oB hF
  obtain ⟨hi, h⟩ := gN_some h
  refine g_after (g_runI (n := 0) C dJ1_init_1 (mJ0_init C.2.2.2.2.2.2.2.2.2.2.2.1 p0 S _ h) hi q177 q101 q175 q176 rfl (by decide +kernel) ⟨by rw [hRf]; exact Nat.le_of_ble_eq_true rfl, by rw [hRl]; exact Nat.le_of_ble_eq_true rfl⟩ rfl rfl (gle gc_0 (by decide))) ?_
  refine g_aload_n C 0 dJ1_init_4 rfl ?_
  refine g_iconst (v := (0 : Int32)) C dJ1_init_5 rfl ?_
  refine g_put C dJ1_init_6 fd_0 (Or.inl q499) (Or.inl rfl) pf_0 rfl rfl hF (fun S2 hF => ?_)
  cases hF
  exact g_vret C dJ1_init_9 rfl rfl
/-! jdk/internal/util/ArraysSupport.newLength(III)I -/
def fJ11_newLength (p0 : Int32) (p1 : Int32) (p2 : Int32) (S : gS) : Option Int32 :=
  (if (p0 + (if p1 < p2 then p2 else p1)) ≤ (0 : Int32) then
  none
  else
  (if (2147483639 : Int32) < (p0 + (if p1 < p2 then p2 else p1)) then
  none
  else
  some (p0 + (if p1 < p2 then p2 else p1))))
theorem mJ11_newLength {l : Launch} {D : gD} {K : gK} (hl : l.stackTraces = false) : ∀ (p0 : Int32) (p1 : Int32) (p2 : Int32) (S : gS) (r : Int32), fJ11_newLength p0 p1 p2 S = some r → gMet l D K yJ11_newLength (ws_ yJ11_newLength cJ11_newLength 4 (Option.some Jvm.ClassFile.FieldType.int)) 1 100 [.int p0, .int p1, .int p2] S (.inl (some (.int r))) S := by
  intro p0 p1 p2 S r hF
  unfold fJ11_newLength at hF
  refine gMet.of hl (by decide +kernel) rfl (gle (lgs_i (lgs_i (lgs_i lgs_0))) (by decide)) (fun p e s m below meth c R hRf hRl C _ => ?_)
  generalize hargs : ([.int p0, .int p1, .int p2] : List Value).toArray = args at C ⊢
  generalize hu0 : S.2.2.1 = u0 at C ⊢
  rw [show lv_args 0 [.int p0, .int p1, .int p2] = [(0, .int p0), (1, .int p1), (2, .int p2)] from (lva_i rfl (lva_i rfl (lva_i rfl lva_0)))]
  refine g_iload_n C 0 dJ11_newLength_0 rfl ?_
  refine g_iload_n C 1 dJ11_newLength_1 rfl ?_
  refine g_iload_n C 2 dJ11_newLength_2 rfl ?_
  refine g_mmax C dJ11_newLength_3 q279 q280 q113 q281 ⟨by rw [hRf]; exact Nat.le_of_ble_eq_true rfl, by rw [hRl]; exact Nat.le_of_ble_eq_true rfl⟩ (gle (gc_i gc_0) (by decide)) ?_
  refine g_iadd C dJ11_newLength_6 ?_
  refine g_istore_n C dJ11_newLength_7 (by decide) rfl ?_
  refine g_iconst (v := (0 : Int32)) C dJ11_newLength_8 rfl ?_
  refine g_iload_n C 0 dJ11_newLength_9 rfl ?_
  refine g_icmp_ge C 21 dJ11_newLength_10 rfl hF (fun c hF => ?_) (fun c hF => ?_)
  · cases hF
  · refine g_iload_n C 0 dJ11_newLength_13 rfl ?_
    refine g_ldc (v := (2147483639 : Int32)) C dJ11_newLength_14 q282 ?_
    refine g_icmp_gt C 21 dJ11_newLength_16 rfl hF (fun c hF => ?_) (fun c hF => ?_)
    · cases hF
    · refine g_iload_n C 0 dJ11_newLength_19 rfl ?_
      cases hF
      exact g_iret C dJ11_newLength_20 rfl rfl
/-! jdk/internal/util/ArraysSupport.signedHashCode(I[BII)I -/
def fJ11_signedHashCode_i8 (ih : (Int32) → (Option Nat) → (Int32) → (Int32) → gS → Option Int32) (a0 : Int32) (a1 : Option Nat) (a4 : Int32) (a5 : Int32) (S : gS) : Option Int32 :=
  (if a4 ≤ a5 then
  some a0
  else
  (oLdI 1 a1 a5 S).bind fun x1 =>
  ih (((31 : Int32) * a0) + (x1 &&& (255 : Int32))) a1 a4 (a5 + (1 : Int32)) S)
def fJ11_signedHashCode_l8 : Nat → (Int32) → (Option Nat) → (Int32) → (Int32) → gS → Option Int32
  | 0 => fun _ _ _ _ _ => none
  | n + 1 => fun a0 a1 a4 a5 S => fJ11_signedHashCode_i8 (fJ11_signedHashCode_l8 n) a0 a1 a4 a5 S
def fJ11_signedHashCode (p0 : Int32) (p1 : Option Nat) (p2 : Int32) (p3 : Int32) (S : gS) : Option Int32 :=
  fJ11_signedHashCode_l8 gFU p0 p1 (p2 + p3) p2 S
theorem wfJ11_signedHashCode_l8 {r : Int32} (C : gCx p l R s m args meth c D K RJ11 cJ11_signedHashCode 6 (Option.some Jvm.ClassFile.FieldType.int) [] "signedHashCode" u0) (hRf : R.frames = 1) (hRl : R.locals = 100) : ∀ (n : Nat) (a0 : Int32) (a1 : Option Nat) (a4 : Int32) (a5 : Int32) (S : gS), fJ11_signedHashCode_l8 n a0 a1 a4 a5 S = some r → gW p l e R s m args below meth c D K 6 u0 (gEnd below args s D K u0 (.inl (some (.int r))) S) S 8 [(0, .int a0), (1, va_rf a1), (4, .int a4), (5, .int a5)] [] := by
  intro n
  induction n with
  | zero => intro a0 a1 a4 a5 S hF; cases hF
  | succ n hih =>
    intro a0 a1 a4 a5 S hF
    have hF : fJ11_signedHashCode_i8 (fJ11_signedHashCode_l8 n) a0 a1 a4 a5 S = some r := hF
    revert hF hih
    generalize fJ11_signedHashCode_l8 n = ih
    intro hih hF
    unfold fJ11_signedHashCode_i8 at hF
    refine g_iload C 3 dJ11_signedHashCode_8 rfl ?_
    refine g_iload C 2 dJ11_signedHashCode_10 rfl ?_
    refine g_icmp_ge C 35 dJ11_signedHashCode_12 rfl hF (fun c hF => ?_) (fun c hF => ?_)
    · refine g_iload_n C 0 dJ11_signedHashCode_35 rfl ?_
      cases hF
      exact g_iret C dJ11_signedHashCode_36 rfl rfl
    · refine g_bipush (v := (31 : Int32)) C dJ11_signedHashCode_15 rfl ?_
      refine g_iload_n C 0 dJ11_signedHashCode_17 rfl ?_
      refine g_imul C dJ11_signedHashCode_18 ?_
      refine g_aload_n C 1 dJ11_signedHashCode_19 rfl ?_
      refine g_iload C 3 dJ11_signedHashCode_20 rfl ?_
      refine g_bald C dJ11_signedHashCode_22 hF (fun x1 hF => ?_)
      refine g_sipush (v := (255 : Int32)) C dJ11_signedHashCode_23 rfl ?_
      refine g_iand C dJ11_signedHashCode_26 ?_
      refine g_iadd C dJ11_signedHashCode_27 ?_
      refine g_istore_n C dJ11_signedHashCode_28 (by decide) rfl ?_
      refine g_iinc (v := (1 : Int32)) C 3 dJ11_signedHashCode_29 rfl rfl (by decide) rfl ?_
      refine g_goto C 8 dJ11_signedHashCode_32 rfl ?_
      exact g_sub [1, 2, 3, 0] rfl (hih (((31 : Int32) * a0) + (x1 &&& (255 : Int32))) a1 a4 (a5 + (1 : Int32)) S hF)
theorem mJ11_signedHashCode {l : Launch} {D : gD} {K : gK} (hl : l.stackTraces = false) : ∀ (p0 : Int32) (p1 : Option Nat) (p2 : Int32) (p3 : Int32) (S : gS) (r : Int32), fJ11_signedHashCode p0 p1 p2 p3 S = some r → gMet l D K yJ11_signedHashCode (ws_ yJ11_signedHashCode cJ11_signedHashCode 6 (Option.some Jvm.ClassFile.FieldType.int)) 1 100 [.int p0, va_rf p1, .int p2, .int p3] S (.inl (some (.int r))) S := by
  intro p0 p1 p2 p3 S r hF
  unfold fJ11_signedHashCode at hF
  refine gMet.of hl (by decide +kernel) rfl (gle (lgs_i (lgs_r (lgs_i (lgs_i lgs_0)))) (by decide)) (fun p e s m below meth c R hRf hRl C _ => ?_)
  generalize hargs : ([.int p0, va_rf p1, .int p2, .int p3] : List Value).toArray = args at C ⊢
  generalize hu0 : S.2.2.1 = u0 at C ⊢
  rw [show lv_args 0 [.int p0, va_rf p1, .int p2, .int p3] = [(0, .int p0), (1, va_rf p1), (2, .int p2), (3, .int p3)] from (lva_i rfl (lva_r rfl (lva_i rfl (lva_i rfl lva_0))))]
  refine g_iload_n C 2 dJ11_signedHashCode_0 rfl ?_
  refine g_iload_n C 3 dJ11_signedHashCode_1 rfl ?_
  refine g_iadd C dJ11_signedHashCode_2 ?_
  refine g_istore C dJ11_signedHashCode_3 (by decide) rfl ?_
  refine g_iload_n C 3 dJ11_signedHashCode_5 rfl ?_
  refine g_istore C dJ11_signedHashCode_6 (by decide) rfl ?_
  exact g_sub [2, 3, 1, 0] rfl (wfJ11_signedHashCode_l8 C hRf hRl gFU p0 p1 (p2 + p3) p2 S hF)
/-! jdk/internal/util/ArraysSupport.vectorizedHashCode(Ljava/lang/Object;IIII)I -/
def fJ11_vectorizedHashCode (p0 : Option Nat) (p1 : Int32) (p2 : Int32) (p3 : Int32) (p4 : Int32) (S : gS) : Option Int32 :=
  (if p4 = (4 : Int32) then
  (if oIsA 1 p0 S = true then
  (fJ11_signedHashCode p3 p0 p1 p2 S).bind fun x1 =>
  some x1
  else none)
  else
  none)
theorem mJ11_vectorizedHashCode {l : Launch} {D : gD} {K : gK} (hl : l.stackTraces = false) : ∀ (p0 : Option Nat) (p1 : Int32) (p2 : Int32) (p3 : Int32) (p4 : Int32) (S : gS) (r : Int32), fJ11_vectorizedHashCode p0 p1 p2 p3 p4 S = some r → gMet l D K yJ11_vectorizedHashCode (ws_ yJ11_vectorizedHashCode cJ11_vectorizedHashCode 5 (Option.some Jvm.ClassFile.FieldType.int)) 2 125 [va_rf p0, .int p1, .int p2, .int p3, .int p4] S (.inl (some (.int r))) S := by
  intro p0 p1 p2 p3 p4 S r hF
  unfold fJ11_vectorizedHashCode at hF
  refine gMet.of hl (by decide +kernel) rfl (gle (lgs_r (lgs_i (lgs_i (lgs_i (lgs_i lgs_0))))) (by decide)) (fun p e s m below meth c R hRf hRl C _ => ?_)
  generalize hargs : ([va_rf p0, .int p1, .int p2, .int p3, .int p4] : List Value).toArray = args at C ⊢
  generalize hu0 : S.2.2.1 = u0 at C ⊢
  rw [show lv_args 0 [va_rf p0, .int p1, .int p2, .int p3, .int p4] = [(0, va_rf p0), (1, .int p1), (2, .int p2), (3, .int p3), (4, .int p4)] from (lva_r rfl (lva_i rfl (lva_i rfl (lva_i rfl (lva_i rfl lva_0)))))]
  refine g_iload C 4 dJ11_vectorizedHashCode_0 rfl ?_
  refine g_case hF (fun c4 hF => ?_) (fun c4 hF => ?_)
  · refine g_tableIn C (4) (42) 44 dJ11_vectorizedHashCode_2 (by rw [c4]; rfl) (by decide) (by decide) rfl rfl ?_
    refine g_iload_n C 3 dJ11_vectorizedHashCode_44 rfl ?_
    refine g_aload_n C 0 dJ11_vectorizedHashCode_45 rfl ?_
    obtain ⟨hi, hF⟩ := gIf hF
    refine g_castA (kd := 1) C dJ11_vectorizedHashCode_46 q1047 (fun _ h => h) hi ?_
    refine g_iload_n C 1 dJ11_vectorizedHashCode_49 rfl ?_
    refine g_iload_n C 2 dJ11_vectorizedHashCode_50 rfl ?_
    obtain ⟨x1, h, hF⟩ := oB hF
    refine g_after (g_runS (n := 4) C dJ11_vectorizedHashCode_51 (mJ11_signedHashCode C.2.2.2.2.2.2.2.2.2.2.2.1 p3 p0 p1 p2 S _ h) (lw_S q1048 q1049 q112 q1050) (by decide +kernel) ⟨by rw [hRf]; exact Nat.le_of_ble_eq_true rfl, by rw [hRl]; exact Nat.le_of_ble_eq_true rfl⟩ rfl rfl (gle gc_0 (by decide))) ?_
    refine g_goto C 157 dJ11_vectorizedHashCode_54 rfl ?_
    cases hF
    exact g_iret C dJ11_vectorizedHashCode_157 rfl rfl
  cases hF
/-! java/util/Arrays.checkLength(II)V -/
def fJ13_checkLength (p0 : Int32) (p1 : Int32) (S : gS) : Option Unit :=
  (if p0 ≤ p1 then
  some ()
  else
  none)
theorem mJ13_checkLength {l : Launch} {D : gD} {K : gK} (hl : l.stackTraces = false) : ∀ (p0 : Int32) (p1 : Int32) (S : gS) (r : Unit), fJ13_checkLength p0 p1 S = some r → gMet l D K yJ13_checkLength (ws_ yJ13_checkLength cJ13_checkLength 2 (Option.none : Option Jvm.ClassFile.FieldType)) 1 100 [.int p0, .int p1] S (.inl none) S := by
  intro p0 p1 S r hF
  unfold fJ13_checkLength at hF
  refine gMet.of hl (by decide +kernel) rfl (gle (lgs_i (lgs_i lgs_0)) (by decide)) (fun p e s m below meth c R hRf hRl C _ => ?_)
  generalize hargs : ([.int p0, .int p1] : List Value).toArray = args at C ⊢
  generalize hu0 : S.2.2.1 = u0 at C ⊢
  rw [show lv_args 0 [.int p0, .int p1] = [(0, .int p0), (1, .int p1)] from (lva_i rfl (lva_i rfl lva_0))]
  refine g_iload_n C 1 dJ13_checkLength_0 rfl ?_
  refine g_iload_n C 0 dJ13_checkLength_1 rfl ?_
  refine g_icmp_ge C 37 dJ13_checkLength_2 rfl hF (fun c hF => ?_) (fun c hF => ?_)
  · cases hF
    exact g_vret C dJ13_checkLength_37 rfl rfl
  · cases hF
/-! java/util/Arrays.copyOfRangeByte([BII)[B -/
def fJ13_copyOfRangeByte (p0 : Option Nat) (p1 : Int32) (p2 : Int32) (S : gS) : Option ((Option Nat) × gS) :=
  (fJ13_checkLength p1 p2 S).bind fun x1 =>
  gB (oNewA 1 (p2 - p1) S) fun q2 S3 =>
  (oLen p0 S3).bind fun x4 =>
  (oCopyI 1 p0 p1 (some q2) (0 : Int32) (if (p2 - p1) < (x4 - p1) then (p2 - p1) else (x4 - p1)) S3).bind fun S5 =>
  some (some q2, S5)
theorem mJ13_copyOfRangeByte {l : Launch} {D : gD} {K : gK} (hl : l.stackTraces = false) : ∀ (p0 : Option Nat) (p1 : Int32) (p2 : Int32) (S : gS) (r : Option Nat) (S1 : gS), fJ13_copyOfRangeByte p0 p1 p2 S = some (r, S1) → gMet l D K yJ13_copyOfRangeByte (ws_ yJ13_copyOfRangeByte cJ13_copyOfRangeByte 5 (Option.some (Jvm.ClassFile.FieldType.array Jvm.ClassFile.FieldType.byte))) 2 200 [va_rf p0, .int p1, .int p2] S (.inl (some (va_rf r))) S1 := by
  intro p0 p1 p2 S r S1 hF
  unfold fJ13_copyOfRangeByte at hF
  refine gMet.of hl (by decide +kernel) rfl (gle (lgs_r (lgs_i (lgs_i lgs_0))) (by decide)) (fun p e s m below meth c R hRf hRl C _ => ?_)
  generalize hargs : ([va_rf p0, .int p1, .int p2] : List Value).toArray = args at C ⊢
  generalize hu0 : S.2.2.1 = u0 at C ⊢
  rw [show lv_args 0 [va_rf p0, .int p1, .int p2] = [(0, va_rf p0), (1, .int p1), (2, .int p2)] from (lva_r rfl (lva_i rfl (lva_i rfl lva_0)))]
  refine g_iload_n C 1 dJ13_copyOfRangeByte_0 rfl ?_
  refine g_iload_n C 2 dJ13_copyOfRangeByte_1 rfl ?_
  obtain ⟨x1, h, hF⟩ := oB hF
  refine g_after (g_runS (n := 2) C dJ13_copyOfRangeByte_2 (mJ13_checkLength C.2.2.2.2.2.2.2.2.2.2.2.1 p1 p2 S _ h) (lw_S q435 q436 q114 q437) (by decide +kernel) ⟨by rw [hRf]; exact Nat.le_of_ble_eq_true rfl, by rw [hRl]; exact Nat.le_of_ble_eq_true rfl⟩ rfl rfl (gle gc_0 (by decide))) ?_
  refine g_iload_n C 2 dJ13_copyOfRangeByte_5 rfl ?_
  refine g_iload_n C 1 dJ13_copyOfRangeByte_6 rfl ?_
  refine g_isub C dJ13_copyOfRangeByte_7 ?_
  refine g_istore_n C dJ13_copyOfRangeByte_8 (by decide) rfl ?_
  refine g_iload_n C 0 dJ13_copyOfRangeByte_9 rfl ?_
  refine g_newaB C dJ13_copyOfRangeByte_10 q255 hF (fun q2 S3 hF => ?_)
  refine g_astore C dJ13_copyOfRangeByte_12 (by decide) rfl ?_
  refine g_aload_n C 2 dJ13_copyOfRangeByte_14 rfl ?_
  refine g_iload_n C 3 dJ13_copyOfRangeByte_15 rfl ?_
  refine g_aload C 0 dJ13_copyOfRangeByte_16 rfl ?_
  refine g_iconst (v := (0 : Int32)) C dJ13_copyOfRangeByte_18 rfl ?_
  refine g_aload_n C 2 dJ13_copyOfRangeByte_19 rfl ?_
  refine g_alen C dJ13_copyOfRangeByte_20 hF (fun x4 hF => ?_)
  refine g_iload_n C 3 dJ13_copyOfRangeByte_21 rfl ?_
  refine g_isub C dJ13_copyOfRangeByte_22 ?_
  refine g_iload_n C 1 dJ13_copyOfRangeByte_23 rfl ?_
  refine g_mmin C dJ13_copyOfRangeByte_24 q297 q298 q113 q299 ⟨by rw [hRf]; exact Nat.le_of_ble_eq_true rfl, by rw [hRl]; exact Nat.le_of_ble_eq_true rfl⟩ (gle (gc_i (gc_r (gc_i (gc_r gc_0)))) (by decide)) ?_
  refine g_copyI (kd := 1) C (by decide) dJ13_copyOfRangeByte_27 q300 q302 q301 q115 ⟨by rw [hRf]; exact Nat.le_of_ble_eq_true rfl, by rw [hRl]; exact Nat.le_of_ble_eq_true rfl⟩ (gle gc_0 (by decide)) hF (fun S5 hF => ?_)
  refine g_aload C 0 dJ13_copyOfRangeByte_30 rfl ?_
  cases hF
  exact g_aret C (Or.inr ⟨_, rfl⟩) dJ13_copyOfRangeByte_32 rfl rfl
/-! java/util/Arrays.copyOfRange([BII)[B -/
def fJ13_copyOfRange (p0 : Option Nat) (p1 : Int32) (p2 : Int32) (S : gS) : Option ((Option Nat) × gS) :=
  (if p1 = 0 then
  (oLen p0 S).bind fun x3 =>
  (if p2 = x3 then
  none
  else
  gB (fJ13_copyOfRangeByte p0 p1 p2 S) fun x4 S5 =>
  some (x4, S5))
  else
  gB (fJ13_copyOfRangeByte p0 p1 p2 S) fun x1 S2 =>
  some (x1, S2))
theorem mJ13_copyOfRange {l : Launch} {D : gD} {K : gK} (hl : l.stackTraces = false) : ∀ (p0 : Option Nat) (p1 : Int32) (p2 : Int32) (S : gS) (r : Option Nat) (S1 : gS), fJ13_copyOfRange p0 p1 p2 S = some (r, S1) → gMet l D K yJ13_copyOfRange (ws_ yJ13_copyOfRange cJ13_copyOfRange 3 (Option.some (Jvm.ClassFile.FieldType.array Jvm.ClassFile.FieldType.byte))) 3 224 [va_rf p0, .int p1, .int p2] S (.inl (some (va_rf r))) S1 := by
  intro p0 p1 p2 S r S1 hF
  unfold fJ13_copyOfRange at hF
  refine gMet.of hl (by decide +kernel) rfl (gle (lgs_r (lgs_i (lgs_i lgs_0))) (by decide)) (fun p e s m below meth c R hRf hRl C _ => ?_)
  generalize hargs : ([va_rf p0, .int p1, .int p2] : List Value).toArray = args at C ⊢
  generalize hu0 : S.2.2.1 = u0 at C ⊢
  rw [show lv_args 0 [va_rf p0, .int p1, .int p2] = [(0, va_rf p0), (1, .int p1), (2, .int p2)] from (lva_r rfl (lva_i rfl (lva_i rfl lva_0)))]
  refine g_iload_n C 1 dJ13_copyOfRange_0 rfl ?_
  refine g_if_ne C 10 dJ13_copyOfRange_1 rfl hF (fun c hF => ?_) (fun c hF => ?_)
  · refine g_aload_n C 0 dJ13_copyOfRange_10 rfl ?_
    refine g_iload_n C 1 dJ13_copyOfRange_11 rfl ?_
    refine g_iload_n C 2 dJ13_copyOfRange_12 rfl ?_
    obtain ⟨x1, S2, h, hF⟩ := gB_some hF
    refine g_after (g_runS (n := 3) C dJ13_copyOfRange_13 (mJ13_copyOfRangeByte C.2.2.2.2.2.2.2.2.2.2.2.1 p0 p1 p2 S _ _ h) (lw_S q432 q433 q114 q434) (by decide +kernel) ⟨by rw [hRf]; exact Nat.le_of_ble_eq_true rfl, by rw [hRl]; exact Nat.le_of_ble_eq_true rfl⟩ rfl rfl (gle gc_0 (by decide))) ?_
    cases hF
    exact g_aret C (Or.inr ⟨_, rfl⟩) dJ13_copyOfRange_16 rfl rfl
  · refine g_iload_n C 2 dJ13_copyOfRange_4 rfl ?_
    refine g_aload_n C 0 dJ13_copyOfRange_5 rfl ?_
    refine g_alen C dJ13_copyOfRange_6 hF (fun x3 hF => ?_)
    refine g_icmp_eq C 17 dJ13_copyOfRange_7 rfl hF (fun c hF => ?_) (fun c hF => ?_)
    · cases hF
    · refine g_aload_n C 0 dJ13_copyOfRange_10 rfl ?_
      refine g_iload_n C 1 dJ13_copyOfRange_11 rfl ?_
      refine g_iload_n C 2 dJ13_copyOfRange_12 rfl ?_
      obtain ⟨x4, S5, h, hF⟩ := gB_some hF
      refine g_after (g_runS (n := 3) C dJ13_copyOfRange_13 (mJ13_copyOfRangeByte C.2.2.2.2.2.2.2.2.2.2.2.1 p0 p1 p2 S _ _ h) (lw_S q432 q433 q114 q434) (by decide +kernel) ⟨by rw [hRf]; exact Nat.le_of_ble_eq_true rfl, by rw [hRl]; exact Nat.le_of_ble_eq_true rfl⟩ rfl rfl (gle gc_0 (by decide))) ?_
      cases hF
      exact g_aret C (Or.inr ⟨_, rfl⟩) dJ13_copyOfRange_16 rfl rfl
/-! java/util/Arrays.copyOf([Ljava/lang/Object;ILjava/lang/Class;)[Ljava/lang/Object; -/
def fJ13_copyOf_3 (p0 : Option Nat) (p1 : Int32) (p2 : Option Nat) (S : gS) : Option ((Option Nat) × gS) :=
  (if p2 = (S.2.2.2.2.2 2) then
  gB (oNewA 3 p1 S) fun q1 S2 =>
  (oLen p0 S2).bind fun x3 =>
  (oCopyR 3 [6, 7, 8, 20, 21, 22, 23, 24, 25, 26] p0 (0 : Int32) (some q1) (0 : Int32) (if p1 < x3 then p1 else x3) S2).bind fun S4 =>
  some (some q1, S4)
  else
  none)
theorem mJ13_copyOf_3 {l : Launch} {D : gD} {K : gK} (hl : l.stackTraces = false) : ∀ (p0 : Option Nat) (p1 : Int32) (p2 : Option Nat) (S : gS) (r : Option Nat) (S1 : gS), fJ13_copyOf_3 p0 p1 p2 S = some (r, S1) → gMet l D K yJ13_copyOf_3 (ws_ yJ13_copyOf_3 cJ13_copyOf_3 4 (Option.some (Jvm.ClassFile.FieldType.array (Jvm.ClassFile.FieldType.object "java/lang/Object")))) 2 200 [va_rf p0, .int p1, va_rf p2] S (.inl (some (va_rf r))) S1 := by
  intro p0 p1 p2 S r S1 hF
  unfold fJ13_copyOf_3 at hF
  refine gMet.of hl (by decide +kernel) rfl (gle (lgs_r (lgs_i (lgs_r lgs_0))) (by decide)) (fun p e s m below meth c R hRf hRl C _ => ?_)
  generalize hargs : ([va_rf p0, .int p1, va_rf p2] : List Value).toArray = args at C ⊢
  generalize hu0 : S.2.2.1 = u0 at C ⊢
  rw [show lv_args 0 [va_rf p0, .int p1, va_rf p2] = [(0, va_rf p0), (1, .int p1), (2, va_rf p2)] from (lva_r rfl (lva_i rfl (lva_r rfl lva_0)))]
  refine g_aload_n C 2 dJ13_copyOf_3_0 rfl ?_
  refine g_ldcM C dJ13_copyOf_3_1 q1242 ?_
  refine g_acmp_ne C 13 dJ13_copyOf_3_3 rfl hF (fun c hF => ?_) (fun c hF => ?_)
  · cases hF
  · refine g_iload_n C 1 dJ13_copyOf_3_6 rfl ?_
    refine g_anew (kd := 3) C (by decide) rfl rfl dJ13_copyOf_3_7 q1243 C.2.2.2.2.2.2.2.2.1.2.2.2.2.2.2.2.1 hF (fun q1 S2 hF => ?_)
    refine g_goto C 24 dJ13_copyOf_3_10 rfl ?_
    refine g_astore_n C dJ13_copyOf_3_24 (by decide) (gcons rfl (gfk rfl rfl (gfk rfl rfl (gfr rfl gf0)))) ?_
    refine g_aload_n C 1 dJ13_copyOf_3_25 rfl ?_
    refine g_iconst (v := (0 : Int32)) C dJ13_copyOf_3_26 rfl ?_
    refine g_aload_n C 0 dJ13_copyOf_3_27 rfl ?_
    refine g_iconst (v := (0 : Int32)) C dJ13_copyOf_3_28 rfl ?_
    refine g_aload_n C 1 dJ13_copyOf_3_29 rfl ?_
    refine g_alen C dJ13_copyOf_3_30 hF (fun x3 hF => ?_)
    refine g_iload_n C 2 dJ13_copyOf_3_31 rfl ?_
    refine g_mmin C dJ13_copyOf_3_32 q297 q298 q113 q299 ⟨by rw [hRf]; exact Nat.le_of_ble_eq_true rfl, by rw [hRl]; exact Nat.le_of_ble_eq_true rfl⟩ (gle (gc_i (gc_r (gc_i (gc_r gc_0)))) (by decide)) ?_
    refine g_copyR (kd := 3) C rfl ast_3 dJ13_copyOf_3_35 q300 q302 q301 q115 ⟨by rw [hRf]; exact Nat.le_of_ble_eq_true rfl, by rw [hRl]; exact Nat.le_of_ble_eq_true rfl⟩ (gle gc_0 (by decide)) hF (fun S4 hF => ?_)
    refine g_aload_n C 0 dJ13_copyOf_3_38 rfl ?_
    cases hF
    exact g_aret C (Or.inr ⟨_, rfl⟩) dJ13_copyOf_3_39 rfl rfl
/-! java/util/Arrays.copyOf([Ljava/lang/Object;I)[Ljava/lang/Object; -/
def fJ13_copyOf_2 (p0 : Option Nat) (p1 : Int32) (S : gS) : Option ((Option Nat) × gS) :=
  (if oIsA 3 p0 S = true then
  gB (fJ13_copyOf_3 p0 p1 (S.2.2.2.2.2 2) S) fun x1 S2 =>
  some (x1, S2)
  else none)
theorem mJ13_copyOf_2 {l : Launch} {D : gD} {K : gK} (hl : l.stackTraces = false) : ∀ (p0 : Option Nat) (p1 : Int32) (S : gS) (r : Option Nat) (S1 : gS), fJ13_copyOf_2 p0 p1 S = some (r, S1) → gMet l D K yJ13_copyOf_2 (ws_ yJ13_copyOf_2 cJ13_copyOf_2 2 (Option.some (Jvm.ClassFile.FieldType.array (Jvm.ClassFile.FieldType.object "java/lang/Object")))) 3 223 [va_rf p0, .int p1] S (.inl (some (va_rf r))) S1 := by
  intro p0 p1 S r S1 hF
  unfold fJ13_copyOf_2 at hF
  refine gMet.of hl (by decide +kernel) rfl (gle (lgs_r (lgs_i lgs_0)) (by decide)) (fun p e s m below meth c R hRf hRl C _ => ?_)
  generalize hargs : ([va_rf p0, .int p1] : List Value).toArray = args at C ⊢
  generalize hu0 : S.2.2.1 = u0 at C ⊢
  rw [show lv_args 0 [va_rf p0, .int p1] = [(0, va_rf p0), (1, .int p1)] from (lva_r rfl (lva_i rfl lva_0))]
  refine g_aload_n C 0 dJ13_copyOf_2_0 rfl ?_
  refine g_iload_n C 1 dJ13_copyOf_2_1 rfl ?_
  refine g_aload_n C 0 dJ13_copyOf_2_2 rfl ?_
  obtain ⟨hi, hF⟩ := gIf hF
  refine g_getC C dJ13_copyOf_2_3 q1201 q2672 q2671 q1202 q1238 hi ⟨by rw [hRf]; exact Nat.le_of_ble_eq_true rfl, by rw [hRl]; exact Nat.le_of_ble_eq_true rfl⟩ (gle (gc_i (gc_r gc_0)) (by decide)) ?_
  obtain ⟨x1, S2, h, hF⟩ := gB_some hF
  refine g_after (g_runS (n := 3) C dJ13_copyOf_2_6 (mJ13_copyOf_3 C.2.2.2.2.2.2.2.2.2.2.2.1 p0 p1 (S.2.2.2.2.2 2) S _ _ h) (lw_S q1239 q1240 q114 q1241) (by decide +kernel) ⟨by rw [hRf]; exact Nat.le_of_ble_eq_true rfl, by rw [hRl]; exact Nat.le_of_ble_eq_true rfl⟩ rfl rfl (gle gc_0 (by decide))) ?_
  cases hF
  exact g_aret C (Or.inr ⟨_, rfl⟩) dJ13_copyOf_2_9 rfl rfl
/-! jdk/internal/util/Preconditions.checkIndex(IILjava/util/function/BiFunction;)I -/
def fJ14_checkIndex (p0 : Int32) (p1 : Int32) (p2 : Option Nat) (S : gS) : Option Int32 :=
  (if p0 < 0 then
  none
  else
  (if p0 < p1 then
  some p0
  else
  none))
theorem mJ14_checkIndex {l : Launch} {D : gD} {K : gK} (hl : l.stackTraces = false) : ∀ (p0 : Int32) (p1 : Int32) (p2 : Option Nat) (S : gS) (r : Int32), fJ14_checkIndex p0 p1 p2 S = some r → gMet l D K yJ14_checkIndex (ws_ yJ14_checkIndex cJ14_checkIndex 3 (Option.some Jvm.ClassFile.FieldType.int)) 1 100 [.int p0, .int p1, va_rf p2] S (.inl (some (.int r))) S := by
  intro p0 p1 p2 S r hF
  unfold fJ14_checkIndex at hF
  refine gMet.of hl (by decide +kernel) rfl (gle (lgs_i (lgs_i (lgs_r lgs_0))) (by decide)) (fun p e s m below meth c R hRf hRl C _ => ?_)
  generalize hargs : ([.int p0, .int p1, va_rf p2] : List Value).toArray = args at C ⊢
  generalize hu0 : S.2.2.1 = u0 at C ⊢
  rw [show lv_args 0 [.int p0, .int p1, va_rf p2] = [(0, .int p0), (1, .int p1), (2, va_rf p2)] from (lva_i rfl (lva_i rfl (lva_r rfl lva_0)))]
  refine g_iload_n C 0 dJ14_checkIndex_0 rfl ?_
  refine g_if_lt C 9 dJ14_checkIndex_1 rfl hF (fun c hF => ?_) (fun c hF => ?_)
  · cases hF
  · refine g_iload_n C 0 dJ14_checkIndex_4 rfl ?_
    refine g_iload_n C 1 dJ14_checkIndex_5 rfl ?_
    refine g_icmp_lt C 16 dJ14_checkIndex_6 rfl hF (fun c hF => ?_) (fun c hF => ?_)
    · refine g_iload_n C 0 dJ14_checkIndex_16 rfl ?_
      cases hF
      exact g_iret C dJ14_checkIndex_17 rfl rfl
    · cases hF
/-! java/lang/StringLatin1.canEncode(C)Z -/
def fJ15_canEncode (p0 : Int32) : Int32 :=
  (if (255 : Int32) < p0 then
  (0 : Int32)
  else
  (1 : Int32))
theorem mJ15_canEncode {l : Launch} {D : gD} {K : gK} (hl : l.stackTraces = false) : ∀ (p0 : Int32) (S : gS) (r : Int32), fJ15_canEncode p0 = r → gMet l D K yJ15_canEncode (ws_ yJ15_canEncode cJ15_canEncode 1 (Option.some Jvm.ClassFile.FieldType.boolean)) 1 100 [.int p0] S (.inl (some (.int r))) S := by
  intro p0 S r hF
  unfold fJ15_canEncode at hF
  refine gMet.of hl (by decide +kernel) rfl (gle (lgs_i lgs_0) (by decide)) (fun p e s m below meth c R hRf hRl C _ => ?_)
  generalize hargs : ([.int p0] : List Value).toArray = args at C ⊢
  generalize hu0 : S.2.2.1 = u0 at C ⊢
  rw [show lv_args 0 [.int p0] = [(0, .int p0)] from (lva_i rfl lva_0)]
  refine g_iload_n C 0 dJ15_canEncode_0 rfl ?_
  refine g_sipush (v := (255 : Int32)) C dJ15_canEncode_1 rfl ?_
  refine g_icmp_gt C 11 dJ15_canEncode_4 rfl hF (fun c hF => ?_) (fun c hF => ?_)
  · refine g_iconst (v := (0 : Int32)) C dJ15_canEncode_11 rfl ?_
    subst hF
    exact g_zret (ty := .boolean) C (rfl) dJ15_canEncode_12 rfl rfl
  · refine g_iconst (v := (1 : Int32)) C dJ15_canEncode_7 rfl ?_
    refine g_goto C 12 dJ15_canEncode_8 rfl ?_
    subst hF
    exact g_zret (ty := .boolean) C (rfl) dJ15_canEncode_12 rfl rfl
/-! java/lang/StringLatin1.hashCode([B)I -/
def fJ15_hashCode (p0 : Option Nat) (S : gS) : Option Int32 :=
  (oLen p0 S).bind fun x1 =>
  (if x1 = (0 : Int32) then
  some (0 : Int32)
  else
  if x1 = (1 : Int32) then
  (oLdI 1 p0 (0 : Int32) S).bind fun x2 =>
  some (x2 &&& (255 : Int32))
  else
  (oLen p0 S).bind fun x3 =>
  (fJ11_vectorizedHashCode p0 (0 : Int32) x3 (0 : Int32) (4 : Int32) S).bind fun x4 =>
  some x4)
theorem mJ15_hashCode {l : Launch} {D : gD} {K : gK} (hl : l.stackTraces = false) : ∀ (p0 : Option Nat) (S : gS) (r : Int32), fJ15_hashCode p0 S = some r → gMet l D K yJ15_hashCode (ws_ yJ15_hashCode cJ15_hashCode 1 (Option.some Jvm.ClassFile.FieldType.int)) 3 149 [va_rf p0] S (.inl (some (.int r))) S := by
  intro p0 S r hF
  unfold fJ15_hashCode at hF
  refine gMet.of hl (by decide +kernel) rfl (gle (lgs_r lgs_0) (by decide)) (fun p e s m below meth c R hRf hRl C _ => ?_)
  generalize hargs : ([va_rf p0] : List Value).toArray = args at C ⊢
  generalize hu0 : S.2.2.1 = u0 at C ⊢
  rw [show lv_args 0 [va_rf p0] = [(0, va_rf p0)] from (lva_r rfl lva_0)]
  refine g_aload_n C 0 dJ15_hashCode_0 rfl ?_
  refine g_alen C dJ15_hashCode_1 hF (fun x1 hF => ?_)
  refine g_case hF (fun c0 hF => ?_) (fun c0 hF => ?_)
  · refine g_lookup C (26) 28 dJ15_hashCode_2 (by decide) (by rw [c0]; decide) rfl ?_
    refine g_iconst (v := (0 : Int32)) C dJ15_hashCode_28 rfl ?_
    refine g_goto C 51 dJ15_hashCode_29 rfl ?_
    cases hF
    exact g_iret C dJ15_hashCode_51 rfl rfl
  refine g_case hF (fun c1 hF => ?_) (fun c1 hF => ?_)
  · refine g_lookup C (30) 32 dJ15_hashCode_2 (by decide) (by rw [c1]; decide) rfl ?_
    refine g_aload_n C 0 dJ15_hashCode_32 rfl ?_
    refine g_iconst (v := (0 : Int32)) C dJ15_hashCode_33 rfl ?_
    refine g_bald C dJ15_hashCode_34 hF (fun x2 hF => ?_)
    refine g_sipush (v := (255 : Int32)) C dJ15_hashCode_35 rfl ?_
    refine g_iand C dJ15_hashCode_38 ?_
    refine g_goto C 51 dJ15_hashCode_39 rfl ?_
    cases hF
    exact g_iret C dJ15_hashCode_51 rfl rfl
  refine g_lookup C (40) 42 dJ15_hashCode_2 (by decide) (by show Op.lookupswitch.offset [(0, 26), (1, 30)] (40) _ = _; rw [lv_osw c0 (by decide)]; rw [lv_osw c1 (by decide)]; rfl) rfl ?_
  refine g_aload_n C 0 dJ15_hashCode_42 rfl ?_
  refine g_iconst (v := (0 : Int32)) C dJ15_hashCode_43 rfl ?_
  refine g_aload_n C 0 dJ15_hashCode_44 rfl ?_
  refine g_alen C dJ15_hashCode_45 hF (fun x3 hF => ?_)
  refine g_iconst (v := (0 : Int32)) C dJ15_hashCode_46 rfl ?_
  refine g_iconst (v := (4 : Int32)) C dJ15_hashCode_47 rfl ?_
  obtain ⟨x4, h, hF⟩ := oB hF
  refine g_after (g_runS (n := 5) C dJ15_hashCode_48 (mJ11_vectorizedHashCode C.2.2.2.2.2.2.2.2.2.2.2.1 p0 (0 : Int32) x3 (0 : Int32) (4 : Int32) S _ h) (lw_S q1044 q1045 q112 q1046) (by decide +kernel) ⟨by rw [hRf]; exact Nat.le_of_ble_eq_true rfl, by rw [hRl]; exact Nat.le_of_ble_eq_true rfl⟩ rfl rfl (gle gc_0 (by decide))) ?_
  cases hF
  exact g_iret C dJ15_hashCode_51 rfl rfl
/-! java/lang/StringLatin1.equals([B[B)Z -/
def fJ15_equals_i9 (ih : (Option Nat) → (Option Nat) → (Int32) → gS → Option Int32) (a0 : Option Nat) (a1 : Option Nat) (a2 : Int32) (S : gS) : Option Int32 :=
  (oLen a0 S).bind fun x1 =>
  (if x1 ≤ a2 then
  some (1 : Int32)
  else
  (oLdI 1 a0 a2 S).bind fun x2 =>
  (oLdI 1 a1 a2 S).bind fun x3 =>
  (if x2 = x3 then
  ih a0 a1 (a2 + (1 : Int32)) S
  else
  some (0 : Int32)))
def fJ15_equals_l9 : Nat → (Option Nat) → (Option Nat) → (Int32) → gS → Option Int32
  | 0 => fun _ _ _ _ => none
  | n + 1 => fun a0 a1 a2 S => fJ15_equals_i9 (fJ15_equals_l9 n) a0 a1 a2 S
def fJ15_equals (p0 : Option Nat) (p1 : Option Nat) (S : gS) : Option Int32 :=
  (oLen p0 S).bind fun x1 =>
  (oLen p1 S).bind fun x2 =>
  (if x1 = x2 then
  fJ15_equals_l9 gFU p0 p1 (0 : Int32) S
  else
  some (0 : Int32))
theorem wfJ15_equals_l9 {r : Int32} (C : gCx p l R s m args meth c D K RJ15 cJ15_equals 3 (Option.some Jvm.ClassFile.FieldType.boolean) [] "equals" u0) (hRf : R.frames = 1) (hRl : R.locals = 100) : ∀ (n : Nat) (a0 : Option Nat) (a1 : Option Nat) (a2 : Int32) (S : gS), fJ15_equals_l9 n a0 a1 a2 S = some r → gW p l e R s m args below meth c D K 3 u0 (gEnd below args s D K u0 (.inl (some (.int r))) S) S 9 [(0, va_rf a0), (1, va_rf a1), (2, .int a2)] [] := by
  intro n
  induction n with
  | zero => intro a0 a1 a2 S hF; cases hF
  | succ n hih =>
    intro a0 a1 a2 S hF
    have hF : fJ15_equals_i9 (fJ15_equals_l9 n) a0 a1 a2 S = some r := hF
    revert hF hih
    generalize fJ15_equals_l9 n = ih
    intro hih hF
    unfold fJ15_equals_i9 at hF
    refine g_iload_n C 2 dJ15_equals_9 rfl ?_
    refine g_aload_n C 0 dJ15_equals_10 rfl ?_
    refine g_alen C dJ15_equals_11 hF (fun x1 hF => ?_)
    refine g_icmp_ge C 32 dJ15_equals_12 rfl hF (fun c hF => ?_) (fun c hF => ?_)
    · refine g_iconst (v := (1 : Int32)) C dJ15_equals_32 rfl ?_
      cases hF
      exact g_zret (ty := .boolean) C (rfl) dJ15_equals_33 rfl rfl
    · refine g_aload_n C 0 dJ15_equals_15 rfl ?_
      refine g_iload_n C 2 dJ15_equals_16 rfl ?_
      refine g_bald C dJ15_equals_17 hF (fun x2 hF => ?_)
      refine g_aload_n C 1 dJ15_equals_18 rfl ?_
      refine g_iload_n C 2 dJ15_equals_19 rfl ?_
      refine g_bald C dJ15_equals_20 hF (fun x3 hF => ?_)
      refine g_icmp_eq C 26 dJ15_equals_21 rfl hF (fun c hF => ?_) (fun c hF => ?_)
      · refine g_iinc (v := (1 : Int32)) C 2 dJ15_equals_26 rfl rfl (by decide) (gcons rfl (gfk rfl rfl (gfr rfl (gfd rfl gf0)))) ?_
        refine g_goto C 9 dJ15_equals_29 rfl ?_
        exact g_sub [1, 2, 0] rfl (hih a0 a1 (a2 + (1 : Int32)) S hF)
      · refine g_iconst (v := (0 : Int32)) C dJ15_equals_24 rfl ?_
        cases hF
        exact g_zret (ty := .boolean) C (rfl) dJ15_equals_25 rfl rfl
theorem mJ15_equals {l : Launch} {D : gD} {K : gK} (hl : l.stackTraces = false) : ∀ (p0 : Option Nat) (p1 : Option Nat) (S : gS) (r : Int32), fJ15_equals p0 p1 S = some r → gMet l D K yJ15_equals (ws_ yJ15_equals cJ15_equals 3 (Option.some Jvm.ClassFile.FieldType.boolean)) 1 100 [va_rf p0, va_rf p1] S (.inl (some (.int r))) S := by
  intro p0 p1 S r hF
  unfold fJ15_equals at hF
  refine gMet.of hl (by decide +kernel) rfl (gle (lgs_r (lgs_r lgs_0)) (by decide)) (fun p e s m below meth c R hRf hRl C _ => ?_)
  generalize hargs : ([va_rf p0, va_rf p1] : List Value).toArray = args at C ⊢
  generalize hu0 : S.2.2.1 = u0 at C ⊢
  rw [show lv_args 0 [va_rf p0, va_rf p1] = [(0, va_rf p0), (1, va_rf p1)] from (lva_r rfl (lva_r rfl lva_0))]
  refine g_aload_n C 0 dJ15_equals_0 rfl ?_
  refine g_alen C dJ15_equals_1 hF (fun x1 hF => ?_)
  refine g_aload_n C 1 dJ15_equals_2 rfl ?_
  refine g_alen C dJ15_equals_3 hF (fun x2 hF => ?_)
  refine g_icmp_ne C 34 dJ15_equals_4 rfl hF (fun c hF => ?_) (fun c hF => ?_)
  · refine g_iconst (v := (0 : Int32)) C dJ15_equals_34 rfl ?_
    cases hF
    exact g_zret (ty := .boolean) C (rfl) dJ15_equals_35 rfl rfl
  · refine g_iconst (v := (0 : Int32)) C dJ15_equals_7 rfl ?_
    refine g_istore_n C dJ15_equals_8 (by decide) (gcons rfl (gfk rfl rfl (gfr rfl gf0))) ?_
    exact g_sub [1, 2, 0] rfl (wfJ15_equals_l9 C hRf hRl gFU p0 p1 (0 : Int32) S hF)
/-! java/lang/Integer.bitCount(I)I -/
def fJ16_bitCount (p0 : Int32) (S : gS) : Option Int32 :=
  some ((((((((p0 - (((p0.toUInt32 >>> ((1 : Int32).toUInt32 &&& Int32.toUInt32 31)).toInt32) &&& (1431655765 : Int32))) &&& (858993459 : Int32)) + ((((p0 - (((p0.toUInt32 >>> ((1 : Int32).toUInt32 &&& Int32.toUInt32 31)).toInt32) &&& (1431655765 : Int32))).toUInt32 >>> ((2 : Int32).toUInt32 &&& Int32.toUInt32 31)).toInt32) &&& (858993459 : Int32))) + (((((p0 - (((p0.toUInt32 >>> ((1 : Int32).toUInt32 &&& Int32.toUInt32 31)).toInt32) &&& (1431655765 : Int32))) &&& (858993459 : Int32)) + ((((p0 - (((p0.toUInt32 >>> ((1 : Int32).toUInt32 &&& Int32.toUInt32 31)).toInt32) &&& (1431655765 : Int32))).toUInt32 >>> ((2 : Int32).toUInt32 &&& Int32.toUInt32 31)).toInt32) &&& (858993459 : Int32))).toUInt32 >>> ((4 : Int32).toUInt32 &&& Int32.toUInt32 31)).toInt32)) &&& (252645135 : Int32)) + (((((((p0 - (((p0.toUInt32 >>> ((1 : Int32).toUInt32 &&& Int32.toUInt32 31)).toInt32) &&& (1431655765 : Int32))) &&& (858993459 : Int32)) + ((((p0 - (((p0.toUInt32 >>> ((1 : Int32).toUInt32 &&& Int32.toUInt32 31)).toInt32) &&& (1431655765 : Int32))).toUInt32 >>> ((2 : Int32).toUInt32 &&& Int32.toUInt32 31)).toInt32) &&& (858993459 : Int32))) + (((((p0 - (((p0.toUInt32 >>> ((1 : Int32).toUInt32 &&& Int32.toUInt32 31)).toInt32) &&& (1431655765 : Int32))) &&& (858993459 : Int32)) + ((((p0 - (((p0.toUInt32 >>> ((1 : Int32).toUInt32 &&& Int32.toUInt32 31)).toInt32) &&& (1431655765 : Int32))).toUInt32 >>> ((2 : Int32).toUInt32 &&& Int32.toUInt32 31)).toInt32) &&& (858993459 : Int32))).toUInt32 >>> ((4 : Int32).toUInt32 &&& Int32.toUInt32 31)).toInt32)) &&& (252645135 : Int32)).toUInt32 >>> ((8 : Int32).toUInt32 &&& Int32.toUInt32 31)).toInt32)) + ((((((((p0 - (((p0.toUInt32 >>> ((1 : Int32).toUInt32 &&& Int32.toUInt32 31)).toInt32) &&& (1431655765 : Int32))) &&& (858993459 : Int32)) + ((((p0 - (((p0.toUInt32 >>> ((1 : Int32).toUInt32 &&& Int32.toUInt32 31)).toInt32) &&& (1431655765 : Int32))).toUInt32 >>> ((2 : Int32).toUInt32 &&& Int32.toUInt32 31)).toInt32) &&& (858993459 : Int32))) + (((((p0 - (((p0.toUInt32 >>> ((1 : Int32).toUInt32 &&& Int32.toUInt32 31)).toInt32) &&& (1431655765 : Int32))) &&& (858993459 : Int32)) + ((((p0 - (((p0.toUInt32 >>> ((1 : Int32).toUInt32 &&& Int32.toUInt32 31)).toInt32) &&& (1431655765 : Int32))).toUInt32 >>> ((2 : Int32).toUInt32 &&& Int32.toUInt32 31)).toInt32) &&& (858993459 : Int32))).toUInt32 >>> ((4 : Int32).toUInt32 &&& Int32.toUInt32 31)).toInt32)) &&& (252645135 : Int32)) + (((((((p0 - (((p0.toUInt32 >>> ((1 : Int32).toUInt32 &&& Int32.toUInt32 31)).toInt32) &&& (1431655765 : Int32))) &&& (858993459 : Int32)) + ((((p0 - (((p0.toUInt32 >>> ((1 : Int32).toUInt32 &&& Int32.toUInt32 31)).toInt32) &&& (1431655765 : Int32))).toUInt32 >>> ((2 : Int32).toUInt32 &&& Int32.toUInt32 31)).toInt32) &&& (858993459 : Int32))) + (((((p0 - (((p0.toUInt32 >>> ((1 : Int32).toUInt32 &&& Int32.toUInt32 31)).toInt32) &&& (1431655765 : Int32))) &&& (858993459 : Int32)) + ((((p0 - (((p0.toUInt32 >>> ((1 : Int32).toUInt32 &&& Int32.toUInt32 31)).toInt32) &&& (1431655765 : Int32))).toUInt32 >>> ((2 : Int32).toUInt32 &&& Int32.toUInt32 31)).toInt32) &&& (858993459 : Int32))).toUInt32 >>> ((4 : Int32).toUInt32 &&& Int32.toUInt32 31)).toInt32)) &&& (252645135 : Int32)).toUInt32 >>> ((8 : Int32).toUInt32 &&& Int32.toUInt32 31)).toInt32)).toUInt32 >>> ((16 : Int32).toUInt32 &&& Int32.toUInt32 31)).toInt32)) &&& (63 : Int32))
theorem mJ16_bitCount {l : Launch} {D : gD} {K : gK} (hl : l.stackTraces = false) : ∀ (p0 : Int32) (S : gS) (r : Int32), fJ16_bitCount p0 S = some r → gMet l D K yJ16_bitCount (ws_ yJ16_bitCount cJ16_bitCount 1 (Option.some Jvm.ClassFile.FieldType.int)) 1 100 [.int p0] S (.inl (some (.int r))) S := by
  intro p0 S r hF
  unfold fJ16_bitCount at hF
  refine gMet.of hl (by decide +kernel) rfl (gle (lgs_i lgs_0) (by decide)) (fun p e s m below meth c R hRf hRl C _ => ?_)
  generalize hargs : ([.int p0] : List Value).toArray = args at C ⊢
  generalize hu0 : S.2.2.1 = u0 at C ⊢
  rw [show lv_args 0 [.int p0] = [(0, .int p0)] from (lva_i rfl lva_0)]
  refine g_iload_n C 0 dJ16_bitCount_0 rfl ?_
  refine g_iload_n C 0 dJ16_bitCount_1 rfl ?_
  refine g_iconst (v := (1 : Int32)) C dJ16_bitCount_2 rfl ?_
  refine g_iushr C dJ16_bitCount_3 ?_
  refine g_ldcw (v := (1431655765 : Int32)) C dJ16_bitCount_4 q841 ?_
  refine g_iand C dJ16_bitCount_7 ?_
  refine g_isub C dJ16_bitCount_8 ?_
  refine g_istore_n C dJ16_bitCount_9 (by decide) rfl ?_
  refine g_iload_n C 0 dJ16_bitCount_10 rfl ?_
  refine g_ldcw (v := (858993459 : Int32)) C dJ16_bitCount_11 q842 ?_
  refine g_iand C dJ16_bitCount_14 ?_
  refine g_iload_n C 0 dJ16_bitCount_15 rfl ?_
  refine g_iconst (v := (2 : Int32)) C dJ16_bitCount_16 rfl ?_
  refine g_iushr C dJ16_bitCount_17 ?_
  refine g_ldcw (v := (858993459 : Int32)) C dJ16_bitCount_18 q842 ?_
  refine g_iand C dJ16_bitCount_21 ?_
  refine g_iadd C dJ16_bitCount_22 ?_
  refine g_istore_n C dJ16_bitCount_23 (by decide) rfl ?_
  refine g_iload_n C 0 dJ16_bitCount_24 rfl ?_
  refine g_iload_n C 0 dJ16_bitCount_25 rfl ?_
  refine g_iconst (v := (4 : Int32)) C dJ16_bitCount_26 rfl ?_
  refine g_iushr C dJ16_bitCount_27 ?_
  refine g_iadd C dJ16_bitCount_28 ?_
  refine g_ldcw (v := (252645135 : Int32)) C dJ16_bitCount_29 q843 ?_
  refine g_iand C dJ16_bitCount_32 ?_
  refine g_istore_n C dJ16_bitCount_33 (by decide) rfl ?_
  refine g_iload_n C 0 dJ16_bitCount_34 rfl ?_
  refine g_iload_n C 0 dJ16_bitCount_35 rfl ?_
  refine g_bipush (v := (8 : Int32)) C dJ16_bitCount_36 rfl ?_
  refine g_iushr C dJ16_bitCount_38 ?_
  refine g_iadd C dJ16_bitCount_39 ?_
  refine g_istore_n C dJ16_bitCount_40 (by decide) rfl ?_
  refine g_iload_n C 0 dJ16_bitCount_41 rfl ?_
  refine g_iload_n C 0 dJ16_bitCount_42 rfl ?_
  refine g_bipush (v := (16 : Int32)) C dJ16_bitCount_43 rfl ?_
  refine g_iushr C dJ16_bitCount_45 ?_
  refine g_iadd C dJ16_bitCount_46 ?_
  refine g_istore_n C dJ16_bitCount_47 (by decide) rfl ?_
  refine g_iload_n C 0 dJ16_bitCount_48 rfl ?_
  refine g_bipush (v := (63 : Int32)) C dJ16_bitCount_49 rfl ?_
  refine g_iand C dJ16_bitCount_51 ?_
  cases hF
  exact g_iret C dJ16_bitCount_52 rfl rfl
/-! java/lang/Integer.numberOfTrailingZeros(I)I -/
def fJ16_numberOfTrailingZeros_j62 (a0 : Int32) (a1 : Int32) (S : gS) : Option Int32 :=
  (if a0 ≤ (4 : Int32) then
  some (a1 + ((a0.toUInt32 >>> ((1 : Int32).toUInt32 &&& Int32.toUInt32 31)).toInt32))
  else
  some ((a1 + (2 : Int32)) + ((((a0.toUInt32 >>> ((2 : Int32).toUInt32 &&& Int32.toUInt32 31)).toInt32).toUInt32 >>> ((1 : Int32).toUInt32 &&& Int32.toUInt32 31)).toInt32)))
def fJ16_numberOfTrailingZeros_j49 (a0 : Int32) (a1 : Int32) (S : gS) : Option Int32 :=
  (if a0 ≤ (16 : Int32) then
  fJ16_numberOfTrailingZeros_j62 a0 a1 S
  else
  fJ16_numberOfTrailingZeros_j62 ((a0.toUInt32 >>> ((4 : Int32).toUInt32 &&& Int32.toUInt32 31)).toInt32) (a1 + (4 : Int32)) S)
def fJ16_numberOfTrailingZeros_j34 (a0 : Int32) (a1 : Int32) (S : gS) : Option Int32 :=
  (if a0 ≤ (256 : Int32) then
  fJ16_numberOfTrailingZeros_j49 a0 a1 S
  else
  fJ16_numberOfTrailingZeros_j49 ((a0.toUInt32 >>> ((8 : Int32).toUInt32 &&& Int32.toUInt32 31)).toInt32) (a1 + (8 : Int32)) S)
def fJ16_numberOfTrailingZeros (p0 : Int32) (S : gS) : Option Int32 :=
  (if 0 < ((p0 ^^^ (-1 : Int32)) &&& (p0 - (1 : Int32))) then
  (if ((p0 ^^^ (-1 : Int32)) &&& (p0 - (1 : Int32))) ≤ (65536 : Int32) then
  fJ16_numberOfTrailingZeros_j34 ((p0 ^^^ (-1 : Int32)) &&& (p0 - (1 : Int32))) (1 : Int32) S
  else
  fJ16_numberOfTrailingZeros_j34 ((((p0 ^^^ (-1 : Int32)) &&& (p0 - (1 : Int32))).toUInt32 >>> ((16 : Int32).toUInt32 &&& Int32.toUInt32 31)).toInt32) ((1 : Int32) + (16 : Int32)) S)
  else
  some (((p0 ^^^ (-1 : Int32)) &&& (p0 - (1 : Int32))) &&& (32 : Int32)))
theorem wfJ16_numberOfTrailingZeros_j62 {r : Int32} (C : gCx p l R s m args meth c D K RJ16 cJ16_numberOfTrailingZeros 2 (Option.some Jvm.ClassFile.FieldType.int) [] "numberOfTrailingZeros" u0) (hRf : R.frames = 1) (hRl : R.locals = 100) : ∀ (a0 : Int32) (a1 : Int32) (S : gS), fJ16_numberOfTrailingZeros_j62 a0 a1 S = some r → gW p l e R s m args below meth c D K 2 u0 (gEnd below args s D K u0 (.inl (some (.int r))) S) S 62 [(0, .int a0), (1, .int a1)] [] := by
  intro a0 a1 S hF
  unfold fJ16_numberOfTrailingZeros_j62 at hF
  refine g_iload_n C 0 dJ16_numberOfTrailingZeros_62 rfl ?_
  refine g_iconst (v := (4 : Int32)) C dJ16_numberOfTrailingZeros_63 rfl ?_
  refine g_icmp_le C 74 dJ16_numberOfTrailingZeros_64 rfl hF (fun c hF => ?_) (fun c hF => ?_)
  · refine g_iload_n C 1 dJ16_numberOfTrailingZeros_74 rfl ?_
    refine g_iload_n C 0 dJ16_numberOfTrailingZeros_75 rfl ?_
    refine g_iconst (v := (1 : Int32)) C dJ16_numberOfTrailingZeros_76 rfl ?_
    refine g_iushr C dJ16_numberOfTrailingZeros_77 ?_
    refine g_iadd C dJ16_numberOfTrailingZeros_78 ?_
    cases hF
    exact g_iret C dJ16_numberOfTrailingZeros_79 rfl rfl
  · refine g_iinc (v := (2 : Int32)) C 1 dJ16_numberOfTrailingZeros_67 rfl rfl (by decide) rfl ?_
    refine g_iload_n C 1 dJ16_numberOfTrailingZeros_70 rfl ?_
    refine g_iconst (v := (2 : Int32)) C dJ16_numberOfTrailingZeros_71 rfl ?_
    refine g_iushr C dJ16_numberOfTrailingZeros_72 ?_
    refine g_istore_n C dJ16_numberOfTrailingZeros_73 (by decide) rfl ?_
    refine g_iload_n C 1 dJ16_numberOfTrailingZeros_74 rfl ?_
    refine g_iload_n C 0 dJ16_numberOfTrailingZeros_75 rfl ?_
    refine g_iconst (v := (1 : Int32)) C dJ16_numberOfTrailingZeros_76 rfl ?_
    refine g_iushr C dJ16_numberOfTrailingZeros_77 ?_
    refine g_iadd C dJ16_numberOfTrailingZeros_78 ?_
    cases hF
    exact g_iret C dJ16_numberOfTrailingZeros_79 rfl rfl
theorem wfJ16_numberOfTrailingZeros_j49 {r : Int32} (C : gCx p l R s m args meth c D K RJ16 cJ16_numberOfTrailingZeros 2 (Option.some Jvm.ClassFile.FieldType.int) [] "numberOfTrailingZeros" u0) (hRf : R.frames = 1) (hRl : R.locals = 100) : ∀ (a0 : Int32) (a1 : Int32) (S : gS), fJ16_numberOfTrailingZeros_j49 a0 a1 S = some r → gW p l e R s m args below meth c D K 2 u0 (gEnd below args s D K u0 (.inl (some (.int r))) S) S 49 [(0, .int a0), (1, .int a1)] [] := by
  intro a0 a1 S hF
  unfold fJ16_numberOfTrailingZeros_j49 at hF
  refine g_iload_n C 0 dJ16_numberOfTrailingZeros_49 rfl ?_
  refine g_bipush (v := (16 : Int32)) C dJ16_numberOfTrailingZeros_50 rfl ?_
  refine g_icmp_le C 62 dJ16_numberOfTrailingZeros_52 rfl hF (fun c hF => ?_) (fun c hF => ?_)
  · exact g_sub [0, 1] rfl (wfJ16_numberOfTrailingZeros_j62 C hRf hRl a0 a1 S hF)
  · refine g_iinc (v := (4 : Int32)) C 1 dJ16_numberOfTrailingZeros_55 rfl rfl (by decide) rfl ?_
    refine g_iload_n C 1 dJ16_numberOfTrailingZeros_58 rfl ?_
    refine g_iconst (v := (4 : Int32)) C dJ16_numberOfTrailingZeros_59 rfl ?_
    refine g_iushr C dJ16_numberOfTrailingZeros_60 ?_
    refine g_istore_n C dJ16_numberOfTrailingZeros_61 (by decide) rfl ?_
    exact g_sub [0, 1] rfl (wfJ16_numberOfTrailingZeros_j62 C hRf hRl ((a0.toUInt32 >>> ((4 : Int32).toUInt32 &&& Int32.toUInt32 31)).toInt32) (a1 + (4 : Int32)) S hF)
theorem wfJ16_numberOfTrailingZeros_j34 {r : Int32} (C : gCx p l R s m args meth c D K RJ16 cJ16_numberOfTrailingZeros 2 (Option.some Jvm.ClassFile.FieldType.int) [] "numberOfTrailingZeros" u0) (hRf : R.frames = 1) (hRl : R.locals = 100) : ∀ (a0 : Int32) (a1 : Int32) (S : gS), fJ16_numberOfTrailingZeros_j34 a0 a1 S = some r → gW p l e R s m args below meth c D K 2 u0 (gEnd below args s D K u0 (.inl (some (.int r))) S) S 34 [(0, .int a0), (1, .int a1)] [] := by
  intro a0 a1 S hF
  unfold fJ16_numberOfTrailingZeros_j34 at hF
  refine g_iload_n C 0 dJ16_numberOfTrailingZeros_34 rfl ?_
  refine g_sipush (v := (256 : Int32)) C dJ16_numberOfTrailingZeros_35 rfl ?_
  refine g_icmp_le C 49 dJ16_numberOfTrailingZeros_38 rfl hF (fun c hF => ?_) (fun c hF => ?_)
  · exact g_sub [0, 1] rfl (wfJ16_numberOfTrailingZeros_j49 C hRf hRl a0 a1 S hF)
  · refine g_iinc (v := (8 : Int32)) C 1 dJ16_numberOfTrailingZeros_41 rfl rfl (by decide) rfl ?_
    refine g_iload_n C 1 dJ16_numberOfTrailingZeros_44 rfl ?_
    refine g_bipush (v := (8 : Int32)) C dJ16_numberOfTrailingZeros_45 rfl ?_
    refine g_iushr C dJ16_numberOfTrailingZeros_47 ?_
    refine g_istore_n C dJ16_numberOfTrailingZeros_48 (by decide) rfl ?_
    exact g_sub [0, 1] rfl (wfJ16_numberOfTrailingZeros_j49 C hRf hRl ((a0.toUInt32 >>> ((8 : Int32).toUInt32 &&& Int32.toUInt32 31)).toInt32) (a1 + (8 : Int32)) S hF)
theorem mJ16_numberOfTrailingZeros {l : Launch} {D : gD} {K : gK} (hl : l.stackTraces = false) : ∀ (p0 : Int32) (S : gS) (r : Int32), fJ16_numberOfTrailingZeros p0 S = some r → gMet l D K yJ16_numberOfTrailingZeros (ws_ yJ16_numberOfTrailingZeros cJ16_numberOfTrailingZeros 2 (Option.some Jvm.ClassFile.FieldType.int)) 1 100 [.int p0] S (.inl (some (.int r))) S := by
  intro p0 S r hF
  unfold fJ16_numberOfTrailingZeros at hF
  refine gMet.of hl (by decide +kernel) rfl (gle (lgs_i lgs_0) (by decide)) (fun p e s m below meth c R hRf hRl C _ => ?_)
  generalize hargs : ([.int p0] : List Value).toArray = args at C ⊢
  generalize hu0 : S.2.2.1 = u0 at C ⊢
  rw [show lv_args 0 [.int p0] = [(0, .int p0)] from (lva_i rfl lva_0)]
  refine g_iload_n C 0 dJ16_numberOfTrailingZeros_0 rfl ?_
  refine g_iconst (v := (-1 : Int32)) C dJ16_numberOfTrailingZeros_1 rfl ?_
  refine g_ixor C dJ16_numberOfTrailingZeros_2 ?_
  refine g_iload_n C 0 dJ16_numberOfTrailingZeros_3 rfl ?_
  refine g_iconst (v := (1 : Int32)) C dJ16_numberOfTrailingZeros_4 rfl ?_
  refine g_isub C dJ16_numberOfTrailingZeros_5 ?_
  refine g_iand C dJ16_numberOfTrailingZeros_6 ?_
  refine g_istore_n C dJ16_numberOfTrailingZeros_7 (by decide) rfl ?_
  refine g_iload_n C 0 dJ16_numberOfTrailingZeros_8 rfl ?_
  refine g_if_gt C 17 dJ16_numberOfTrailingZeros_9 rfl hF (fun c hF => ?_) (fun c hF => ?_)
  · refine g_iconst (v := (1 : Int32)) C dJ16_numberOfTrailingZeros_17 rfl ?_
    refine g_istore_n C dJ16_numberOfTrailingZeros_18 (by decide) rfl ?_
    refine g_iload_n C 1 dJ16_numberOfTrailingZeros_19 rfl ?_
    refine g_ldcw (v := (65536 : Int32)) C dJ16_numberOfTrailingZeros_20 q1955 ?_
    refine g_icmp_le C 34 dJ16_numberOfTrailingZeros_23 rfl hF (fun c hF => ?_) (fun c hF => ?_)
    · exact g_sub [1, 0] rfl (wfJ16_numberOfTrailingZeros_j34 C hRf hRl ((p0 ^^^ (-1 : Int32)) &&& (p0 - (1 : Int32))) (1 : Int32) S hF)
    · refine g_iinc (v := (16 : Int32)) C 0 dJ16_numberOfTrailingZeros_26 rfl rfl (by decide) rfl ?_
      refine g_iload_n C 1 dJ16_numberOfTrailingZeros_29 rfl ?_
      refine g_bipush (v := (16 : Int32)) C dJ16_numberOfTrailingZeros_30 rfl ?_
      refine g_iushr C dJ16_numberOfTrailingZeros_32 ?_
      refine g_istore_n C dJ16_numberOfTrailingZeros_33 (by decide) rfl ?_
      exact g_sub [0, 1] rfl (wfJ16_numberOfTrailingZeros_j34 C hRf hRl ((((p0 ^^^ (-1 : Int32)) &&& (p0 - (1 : Int32))).toUInt32 >>> ((16 : Int32).toUInt32 &&& Int32.toUInt32 31)).toInt32) ((1 : Int32) + (16 : Int32)) S hF)
  · refine g_iload_n C 0 dJ16_numberOfTrailingZeros_12 rfl ?_
    refine g_bipush (v := (32 : Int32)) C dJ16_numberOfTrailingZeros_13 rfl ?_
    refine g_iand C dJ16_numberOfTrailingZeros_15 ?_
    cases hF
    exact g_iret C dJ16_numberOfTrailingZeros_16 rfl rfl
/-! java/util/Objects.checkIndex(II)I -/
def fJ17_checkIndex (p0 : Int32) (p1 : Int32) (S : gS) : Option Int32 :=
  (fJ14_checkIndex p0 p1 none S).bind fun x1 =>
  some x1
theorem mJ17_checkIndex {l : Launch} {D : gD} {K : gK} (hl : l.stackTraces = false) : ∀ (p0 : Int32) (p1 : Int32) (S : gS) (r : Int32), fJ17_checkIndex p0 p1 S = some r → gMet l D K yJ17_checkIndex (ws_ yJ17_checkIndex cJ17_checkIndex 2 (Option.some Jvm.ClassFile.FieldType.int)) 2 122 [.int p0, .int p1] S (.inl (some (.int r))) S := by
  intro p0 p1 S r hF
  unfold fJ17_checkIndex at hF
  refine gMet.of hl (by decide +kernel) rfl (gle (lgs_i (lgs_i lgs_0)) (by decide)) (fun p e s m below meth c R hRf hRl C _ => ?_)
  generalize hargs : ([.int p0, .int p1] : List Value).toArray = args at C ⊢
  generalize hu0 : S.2.2.1 = u0 at C ⊢
  rw [show lv_args 0 [.int p0, .int p1] = [(0, .int p0), (1, .int p1)] from (lva_i rfl (lva_i rfl lva_0))]
  refine g_iload_n C 0 dJ17_checkIndex_0 rfl ?_
  refine g_iload_n C 1 dJ17_checkIndex_1 rfl ?_
  refine g_null C dJ17_checkIndex_2 ?_
  obtain ⟨x1, h, hF⟩ := oB hF
  refine g_after (g_runS (n := 3) C dJ17_checkIndex_3 (mJ14_checkIndex C.2.2.2.2.2.2.2.2.2.2.2.1 p0 p1 none S _ h) (lw_S q635 q636 q116 q637) (by decide +kernel) ⟨by rw [hRf]; exact Nat.le_of_ble_eq_true rfl, by rw [hRl]; exact Nat.le_of_ble_eq_true rfl⟩ rfl rfl (gle gc_0 (by decide))) ?_
  cases hF
  exact g_iret C dJ17_checkIndex_6 rfl rfl
/-! java/util/ArrayList.<init>(I)V -/
def fJ2_init (p0 : Option Nat) (p1 : Int32) (S : gS) : Option (Unit × gS) :=
  gB (gN p0 (fJ1_init p0 S)) fun x1 S2 =>
  (if p1 ≤ 0 then
  none
  else
  gB (oNewA 3 p1 S2) fun q3 S4 =>
  (oPut [28] 1 p0 (va_rf (some q3)) S4).bind fun S5 =>
  some ((), S5))
theorem mJ2_init {l : Launch} {D : gD} {K : gK} (hl : l.stackTraces = false) : ∀ (p0 : Option Nat) (p1 : Int32) (S : gS) (r : Unit) (S1 : gS), fJ2_init p0 p1 S = some (r, S1) → gMet l D K yJ2_init (ws_ yJ2_init cJ2_init 2 (Option.none : Option Jvm.ClassFile.FieldType)) 3 140 [va_rf p0, .int p1] S (.inl none) S1 := by
  intro p0 p1 S r S1 hF
  unfold fJ2_init at hF
  refine gMet.of hl (by decide +kernel) rfl (gle (lgs_r (lgs_i lgs_0)) (by decide)) (fun p e s m below meth c R hRf hRl C _ => ?_)
  generalize hargs : ([va_rf p0, .int p1] : List Value).toArray = args at C ⊢
  generalize hu0 : S.2.2.1 = u0 at C ⊢
  rw [show lv_args 0 [va_rf p0, .int p1] = [(0, va_rf p0), (1, .int p1)] from (lva_r rfl (lva_i rfl lva_0))]
  refine g_aload_n C 0 dJ2_init_0 rfl ?_
  obtain ⟨x1, S2, h, hF⟩ := gB_some hF
  obtain ⟨hi, h⟩ := gN_some h
  refine g_after (g_runI (n := 0) C dJ2_init_1 (mJ1_init C.2.2.2.2.2.2.2.2.2.2.2.1 p0 S _ _ h) hi q174 q102 q172 q173 rfl (by decide +kernel) ⟨by rw [hRf]; exact Nat.le_of_ble_eq_true rfl, by rw [hRl]; exact Nat.le_of_ble_eq_true rfl⟩ rfl rfl (gle gc_0 (by decide))) ?_
  refine g_iload_n C 1 dJ2_init_4 rfl ?_
  refine g_if_le C 19 dJ2_init_5 rfl hF (fun c hF => ?_) (fun c hF => ?_)
  · cases hF
  · refine g_aload_n C 0 dJ2_init_8 rfl ?_
    refine g_iload_n C 1 dJ2_init_9 rfl ?_
    refine g_anew (kd := 3) C (by decide) rfl rfl dJ2_init_10 q179 C.2.2.2.2.2.2.2.2.1.2.2.2.2.2.2.2.1 hF (fun q3 S4 hF => ?_)
    refine g_put C dJ2_init_13 fd_1 (Or.inl q497) (Or.inl rfl) pf_1 (nrR _ _ (by decide)) (fitR _ _ (by decide)) hF (fun S5 hF => ?_)
    refine g_goto C 60 dJ2_init_16 rfl ?_
    cases hF
    exact g_vret C dJ2_init_60 rfl rfl
/-! java/util/ArrayList.size()I -/
def fJ2_size (p0 : Option Nat) (S : gS) : Option Int32 :=
  (oGetI [28] 2 p0 S).bind fun x1 =>
  some x1
theorem mJ2_size {l : Launch} {D : gD} {K : gK} (hl : l.stackTraces = false) : ∀ (p0 : Option Nat) (S : gS) (r : Int32), fJ2_size p0 S = some r → gMet l D K yJ2_size (ws_ yJ2_size cJ2_size 1 (Option.some Jvm.ClassFile.FieldType.int)) 1 100 [va_rf p0] S (.inl (some (.int r))) S := by
  intro p0 S r hF
  unfold fJ2_size at hF
  refine gMet.of hl (by decide +kernel) rfl (gle (lgs_r lgs_0) (by decide)) (fun p e s m below meth c R hRf hRl C _ => ?_)
  generalize hargs : ([va_rf p0] : List Value).toArray = args at C ⊢
  generalize hu0 : S.2.2.1 = u0 at C ⊢
  rw [show lv_args 0 [va_rf p0] = [(0, va_rf p0)] from (lva_r rfl lva_0)]
  refine g_aload_n C 0 dJ2_size_0 rfl ?_
  refine g_getI C dJ2_size_1 fd_2 (Or.inl q498) (Or.inl rfl) hF (fun x1 hF => ?_)
  cases hF
  exact g_iret C dJ2_size_4 rfl rfl
/-! java/util/ArrayList.elementData(I)Ljava/lang/Object; -/
def fJ2_elementData (p0 : Option Nat) (p1 : Int32) (S : gS) : Option (Option Nat) :=
  (oGetR [28] 1 p0 S).bind fun x1 =>
  (oLdR 3 x1 p1 S).bind fun x2 =>
  some x2
theorem mJ2_elementData {l : Launch} {D : gD} {K : gK} (hl : l.stackTraces = false) : ∀ (p0 : Option Nat) (p1 : Int32) (S : gS) (r : Option Nat), fJ2_elementData p0 p1 S = some r → gMet l D K yJ2_elementData (ws_ yJ2_elementData cJ2_elementData 2 (Option.some (Jvm.ClassFile.FieldType.object "java/lang/Object"))) 1 100 [va_rf p0, .int p1] S (.inl (some (va_rf r))) S := by
  intro p0 p1 S r hF
  unfold fJ2_elementData at hF
  refine gMet.of hl (by decide +kernel) rfl (gle (lgs_r (lgs_i lgs_0)) (by decide)) (fun p e s m below meth c R hRf hRl C _ => ?_)
  generalize hargs : ([va_rf p0, .int p1] : List Value).toArray = args at C ⊢
  generalize hu0 : S.2.2.1 = u0 at C ⊢
  rw [show lv_args 0 [va_rf p0, .int p1] = [(0, va_rf p0), (1, .int p1)] from (lva_r rfl (lva_i rfl lva_0))]
  refine g_aload_n C 0 dJ2_elementData_0 rfl ?_
  refine g_getR C dJ2_elementData_1 fd_1 (Or.inl q497) (Or.inl rfl) hF (fun x1 hF => ?_)
  refine g_iload_n C 1 dJ2_elementData_4 rfl ?_
  refine g_aald C (kd := 3) rfl dJ2_elementData_5 hF (fun x2 hF => ?_)
  cases hF
  exact g_aret C (Or.inl ⟨_, rfl⟩) dJ2_elementData_6 rfl rfl
/-! java/util/ArrayList.get(I)Ljava/lang/Object; -/
def fJ2_get (p0 : Option Nat) (p1 : Int32) (S : gS) : Option (Option Nat) :=
  (oGetI [28] 2 p0 S).bind fun x1 =>
  (fJ17_checkIndex p1 x1 S).bind fun x2 =>
  (gV [28] p0 S (fJ2_elementData p0 p1 S)).bind fun x3 =>
  some x3
theorem mJ2_get {l : Launch} {D : gD} {K : gK} (hl : l.stackTraces = false) : ∀ (p0 : Option Nat) (p1 : Int32) (S : gS) (r : Option Nat), fJ2_get p0 p1 S = some r → gMet l D K yJ2_get (ws_ yJ2_get cJ2_get 2 (Option.some (Jvm.ClassFile.FieldType.object "java/lang/Object"))) 3 143 [va_rf p0, .int p1] S (.inl (some (va_rf r))) S := by
  intro p0 p1 S r hF
  unfold fJ2_get at hF
  refine gMet.of hl (by decide +kernel) rfl (gle (lgs_r (lgs_i lgs_0)) (by decide)) (fun p e s m below meth c R hRf hRl C _ => ?_)
  generalize hargs : ([va_rf p0, .int p1] : List Value).toArray = args at C ⊢
  generalize hu0 : S.2.2.1 = u0 at C ⊢
  rw [show lv_args 0 [va_rf p0, .int p1] = [(0, va_rf p0), (1, .int p1)] from (lva_r rfl (lva_i rfl lva_0))]
  refine g_iload_n C 1 dJ2_get_0 rfl ?_
  refine g_aload_n C 0 dJ2_get_1 rfl ?_
  refine g_getI C dJ2_get_2 fd_2 (Or.inl q498) (Or.inl rfl) hF (fun x1 hF => ?_)
  obtain ⟨x2, h, hF⟩ := oB hF
  refine g_after (g_runS (n := 2) C dJ2_get_5 (mJ17_checkIndex C.2.2.2.2.2.2.2.2.2.2.2.1 p1 x1 S _ h) (lw_S q632 q633 q123 q634) (by decide +kernel) ⟨by rw [hRf]; exact Nat.le_of_ble_eq_true rfl, by rw [hRl]; exact Nat.le_of_ble_eq_true rfl⟩ rfl rfl (gle gc_0 (by decide))) ?_
  refine g_pop C dJ2_get_8 rfl ?_
  refine g_aload_n C 0 dJ2_get_9 rfl ?_
  refine g_iload_n C 1 dJ2_get_10 rfl ?_
  obtain ⟨x3, h, hF⟩ := oB hF
  obtain ⟨hi, h⟩ := gV_some h
  refine g_after (g_runV (n := 1) C dJ2_get_11 rfl hi (mJ2_elementData C.2.2.2.2.2.2.2.2.2.2.2.1 p0 p1 S _ h) (lw_V q638 q639 q640 q103 q641) (by decide +kernel) ⟨by rw [hRf]; exact Nat.le_of_ble_eq_true rfl, by rw [hRl]; exact Nat.le_of_ble_eq_true rfl⟩ rfl rfl (gle gc_0 (by decide))) ?_
  cases hF
  exact g_aret C (Or.inl ⟨_, rfl⟩) dJ2_get_14 rfl rfl
/-! java/util/ArrayList.grow(I)[Ljava/lang/Object; -/
def fJ2_grow_2 (p0 : Option Nat) (p1 : Int32) (S : gS) : Option ((Option Nat) × gS) :=
  (oGetR [28] 1 p0 S).bind fun x1 =>
  (oLen x1 S).bind fun x2 =>
  (if 0 < x2 then
  (fJ11_newLength x2 (p1 - x2) (x2 >>> ((1 : Int32) &&& 31)) S).bind fun x3 =>
  (oGetR [28] 1 p0 S).bind fun x4 =>
  gB (fJ13_copyOf_2 x4 x3 S) fun x5 S6 =>
  (oPut [28] 1 p0 (va_rf x5) S6).bind fun S7 =>
  some (x5, S7)
  else
  none)
theorem mJ2_grow_2 {l : Launch} {D : gD} {K : gK} (hl : l.stackTraces = false) : ∀ (p0 : Option Nat) (p1 : Int32) (S : gS) (r : Option Nat) (S1 : gS), fJ2_grow_2 p0 p1 S = some (r, S1) → gMet l D K yJ2_grow_2 (ws_ yJ2_grow_2 cJ2_grow_2 4 (Option.some (Jvm.ClassFile.FieldType.array (Jvm.ClassFile.FieldType.object "java/lang/Object")))) 4 244 [va_rf p0, .int p1] S (.inl (some (va_rf r))) S1 := by
  intro p0 p1 S r S1 hF
  unfold fJ2_grow_2 at hF
  refine gMet.of hl (by decide +kernel) rfl (gle (lgs_r (lgs_i lgs_0)) (by decide)) (fun p e s m below meth c R hRf hRl C _ => ?_)
  generalize hargs : ([va_rf p0, .int p1] : List Value).toArray = args at C ⊢
  generalize hu0 : S.2.2.1 = u0 at C ⊢
  rw [show lv_args 0 [va_rf p0, .int p1] = [(0, va_rf p0), (1, .int p1)] from (lva_r rfl (lva_i rfl lva_0))]
  refine g_aload_n C 0 dJ2_grow_2_0 rfl ?_
  refine g_getR C dJ2_grow_2_1 fd_1 (Or.inl q497) (Or.inl rfl) hF (fun x1 hF => ?_)
  refine g_alen C dJ2_grow_2_4 hF (fun x2 hF => ?_)
  refine g_istore_n C dJ2_grow_2_5 (by decide) rfl ?_
  refine g_iload_n C 0 dJ2_grow_2_6 rfl ?_
  refine g_if_gt C 20 dJ2_grow_2_7 rfl hF (fun c hF => ?_) (fun c hF => ?_)
  · refine g_iload_n C 0 dJ2_grow_2_20 rfl ?_
    refine g_iload_n C 2 dJ2_grow_2_21 rfl ?_
    refine g_iload_n C 0 dJ2_grow_2_22 rfl ?_
    refine g_isub C dJ2_grow_2_23 ?_
    refine g_iload_n C 0 dJ2_grow_2_24 rfl ?_
    refine g_iconst (v := (1 : Int32)) C dJ2_grow_2_25 rfl ?_
    refine g_ishr C dJ2_grow_2_26 ?_
    obtain ⟨x3, h, hF⟩ := oB hF
    refine g_after (g_runS (n := 3) C dJ2_grow_2_27 (mJ11_newLength C.2.2.2.2.2.2.2.2.2.2.2.1 x2 (p1 - x2) (x2 >>> ((1 : Int32) &&& 31)) S _ h) (lw_S q1197 q277 q112 q278) (by decide +kernel) ⟨by rw [hRf]; exact Nat.le_of_ble_eq_true rfl, by rw [hRl]; exact Nat.le_of_ble_eq_true rfl⟩ rfl rfl (gle gc_0 (by decide))) ?_
    refine g_istore_n C dJ2_grow_2_30 (by decide) rfl ?_
    refine g_aload_n C 2 dJ2_grow_2_31 rfl ?_
    refine g_aload_n C 2 dJ2_grow_2_32 rfl ?_
    refine g_getR C dJ2_grow_2_33 fd_1 (Or.inl q497) (Or.inl rfl) hF (fun x4 hF => ?_)
    refine g_iload_n C 0 dJ2_grow_2_36 rfl ?_
    obtain ⟨x5, S6, h, hF⟩ := gB_some hF
    refine g_after (g_runS (n := 2) C dJ2_grow_2_37 (mJ13_copyOf_2 C.2.2.2.2.2.2.2.2.2.2.2.1 x4 x3 S _ _ h) (lw_S q1198 q1199 q114 q1200) (by decide +kernel) ⟨by rw [hRf]; exact Nat.le_of_ble_eq_true rfl, by rw [hRl]; exact Nat.le_of_ble_eq_true rfl⟩ rfl rfl (gle (gc_r gc_0) (by decide))) ?_
    refine g_dup_x1 C dJ2_grow_2_40 (g_cr _) (g_cr _) ?_
    refine g_put C dJ2_grow_2_41 fd_1 (Or.inl q497) (Or.inl rfl) pf_1 (nrR _ _ (by decide)) (fitR _ _ (by decide)) hF (fun S7 hF => ?_)
    cases hF
    exact g_aret C (Or.inr ⟨_, rfl⟩) dJ2_grow_2_44 rfl rfl
  · cases hF
/-! java/util/ArrayList.grow()[Ljava/lang/Object; -/
def fJ2_grow (p0 : Option Nat) (S : gS) : Option ((Option Nat) × gS) :=
  (oGetI [28] 2 p0 S).bind fun x1 =>
  gB (gV [28] p0 S (fJ2_grow_2 p0 (x1 + (1 : Int32)) S)) fun x2 S3 =>
  some (x2, S3)
theorem mJ2_grow {l : Launch} {D : gD} {K : gK} (hl : l.stackTraces = false) : ∀ (p0 : Option Nat) (S : gS) (r : Option Nat) (S1 : gS), fJ2_grow p0 S = some (r, S1) → gMet l D K yJ2_grow (ws_ yJ2_grow cJ2_grow 1 (Option.some (Jvm.ClassFile.FieldType.array (Jvm.ClassFile.FieldType.object "java/lang/Object")))) 5 267 [va_rf p0] S (.inl (some (va_rf r))) S1 := by
  intro p0 S r S1 hF
  unfold fJ2_grow at hF
  refine gMet.of hl (by decide +kernel) rfl (gle (lgs_r lgs_0) (by decide)) (fun p e s m below meth c R hRf hRl C _ => ?_)
  generalize hargs : ([va_rf p0] : List Value).toArray = args at C ⊢
  generalize hu0 : S.2.2.1 = u0 at C ⊢
  rw [show lv_args 0 [va_rf p0] = [(0, va_rf p0)] from (lva_r rfl lva_0)]
  refine g_aload_n C 0 dJ2_grow_0 rfl ?_
  refine g_aload_n C 0 dJ2_grow_1 rfl ?_
  refine g_getI C dJ2_grow_2 fd_2 (Or.inl q498) (Or.inl rfl) hF (fun x1 hF => ?_)
  refine g_iconst (v := (1 : Int32)) C dJ2_grow_5 rfl ?_
  refine g_iadd C dJ2_grow_6 ?_
  obtain ⟨x2, S3, h, hF⟩ := gB_some hF
  obtain ⟨hi, h⟩ := gV_some h
  refine g_after (g_runV (n := 1) C dJ2_grow_7 rfl hi (mJ2_grow_2 C.2.2.2.2.2.2.2.2.2.2.2.1 p0 (x1 + (1 : Int32)) S _ _ h) (lw_V q1191 q1193 qs23 q103 q1194) (by decide +kernel) ⟨by rw [hRf]; exact Nat.le_of_ble_eq_true rfl, by rw [hRl]; exact Nat.le_of_ble_eq_true rfl⟩ rfl rfl (gle gc_0 (by decide))) ?_
  cases hF
  exact g_aret C (Or.inr ⟨_, rfl⟩) dJ2_grow_10 rfl rfl
/-! java/util/ArrayList.add(Ljava/lang/Object;[Ljava/lang/Object;I)V -/
def fJ2_add_2_j11 (a0 : Option Nat) (a1 : Option Nat) (a2 : Option Nat) (a3 : Int32) (S : gS) : Option (Unit × gS) :=
  (oStR 3 [6, 7, 8, 20, 21, 22, 23, 24, 25, 26] a2 a3 a1 S).bind fun S1 =>
  (oPut [28] 2 a0 (.int (a3 + (1 : Int32))) S1).bind fun S2 =>
  some ((), S2)
def fJ2_add_2 (p0 : Option Nat) (p1 : Option Nat) (p2 : Option Nat) (p3 : Int32) (S : gS) : Option (Unit × gS) :=
  (oLen p2 S).bind fun x1 =>
  (if p3 = x1 then
  gB (gV [28] p0 S (fJ2_grow p0 S)) fun x2 S3 =>
  fJ2_add_2_j11 p0 p1 x2 p3 S3
  else
  fJ2_add_2_j11 p0 p1 p2 p3 S)
theorem wfJ2_add_2_j11 {r : Unit} {S1 : gS} (C : gCx p l R s m args meth c D K RJ2 cJ2_add_2 4 (Option.none : Option Jvm.ClassFile.FieldType) [] "add" u0) (hRf : R.frames = 6) (hRl : R.locals = 287) : ∀ (a0 : Option Nat) (a1 : Option Nat) (a2 : Option Nat) (a3 : Int32) (S : gS), fJ2_add_2_j11 a0 a1 a2 a3 S = some (r, S1) → gW p l e R s m args below meth c D K 4 u0 (gEnd below args s D K u0 (.inl none) S1) S 11 [(0, va_rf a0), (1, va_rf a1), (2, va_rf a2), (3, .int a3)] [] := by
  intro a0 a1 a2 a3 S hF
  unfold fJ2_add_2_j11 at hF
  refine g_aload_n C 2 dJ2_add_2_11 rfl ?_
  refine g_iload_n C 3 dJ2_add_2_12 rfl ?_
  refine g_aload_n C 1 dJ2_add_2_13 rfl ?_
  refine g_aast C (kd := 3) rfl ast_3 dJ2_add_2_14 hF (fun S1 hF => ?_)
  refine g_aload_n C 0 dJ2_add_2_15 rfl ?_
  refine g_iload_n C 3 dJ2_add_2_16 rfl ?_
  refine g_iconst (v := (1 : Int32)) C dJ2_add_2_17 rfl ?_
  refine g_iadd C dJ2_add_2_18 ?_
  refine g_put C dJ2_add_2_19 fd_2 (Or.inl q498) (Or.inl rfl) pf_0 rfl rfl hF (fun S2 hF => ?_)
  cases hF
  exact g_vret C dJ2_add_2_22 rfl rfl
theorem mJ2_add_2 {l : Launch} {D : gD} {K : gK} (hl : l.stackTraces = false) : ∀ (p0 : Option Nat) (p1 : Option Nat) (p2 : Option Nat) (p3 : Int32) (S : gS) (r : Unit) (S1 : gS), fJ2_add_2 p0 p1 p2 p3 S = some (r, S1) → gMet l D K yJ2_add_2 (ws_ yJ2_add_2 cJ2_add_2 4 (Option.none : Option Jvm.ClassFile.FieldType)) 6 287 [va_rf p0, va_rf p1, va_rf p2, .int p3] S (.inl none) S1 := by
  intro p0 p1 p2 p3 S r S1 hF
  unfold fJ2_add_2 at hF
  refine gMet.of hl (by decide +kernel) rfl (gle (lgs_r (lgs_r (lgs_r (lgs_i lgs_0)))) (by decide)) (fun p e s m below meth c R hRf hRl C _ => ?_)
  generalize hargs : ([va_rf p0, va_rf p1, va_rf p2, .int p3] : List Value).toArray = args at C ⊢
  generalize hu0 : S.2.2.1 = u0 at C ⊢
  rw [show lv_args 0 [va_rf p0, va_rf p1, va_rf p2, .int p3] = [(0, va_rf p0), (1, va_rf p1), (2, va_rf p2), (3, .int p3)] from (lva_r rfl (lva_r rfl (lva_r rfl (lva_i rfl lva_0))))]
  refine g_iload_n C 3 dJ2_add_2_0 rfl ?_
  refine g_aload_n C 2 dJ2_add_2_1 rfl ?_
  refine g_alen C dJ2_add_2_2 hF (fun x1 hF => ?_)
  refine g_icmp_ne C 11 dJ2_add_2_3 rfl hF (fun c hF => ?_) (fun c hF => ?_)
  · exact g_sub [0, 1, 2, 3] rfl (wfJ2_add_2_j11 C hRf hRl p0 p1 p2 p3 S hF)
  · refine g_aload_n C 0 dJ2_add_2_6 rfl ?_
    obtain ⟨x2, S3, h, hF⟩ := gB_some hF
    obtain ⟨hi, h⟩ := gV_some h
    refine g_after (g_runV (n := 0) C dJ2_add_2_7 rfl hi (mJ2_grow C.2.2.2.2.2.2.2.2.2.2.2.1 p0 S _ _ h) (lw_V q1187 q1189 qs22 q103 q1190) (by decide +kernel) ⟨by rw [hRf]; exact Nat.le_of_ble_eq_true rfl, by rw [hRl]; exact Nat.le_of_ble_eq_true rfl⟩ rfl rfl (gle gc_0 (by decide))) ?_
    refine g_astore_n C dJ2_add_2_10 (by decide) (gcons rfl (gfk rfl rfl (gfr rfl (gfd rfl (gfk rfl rfl gf0))))) ?_
    exact g_sub [1, 2, 0, 3] rfl (wfJ2_add_2_j11 C hRf hRl p0 p1 x2 p3 S3 hF)
/-! java/util/ArrayList.add(Ljava/lang/Object;)Z -/
def fJ2_add (p0 : Option Nat) (p1 : Option Nat) (S : gS) : Option (Int32 × gS) :=
  (oGetI [28] 0 p0 S).bind fun x1 =>
  (oPut [28] 0 p0 (.int (x1 + (1 : Int32))) S).bind fun S2 =>
  (oGetR [28] 1 p0 S2).bind fun x3 =>
  (oGetI [28] 2 p0 S2).bind fun x4 =>
  gB (gV [28] p0 S2 (fJ2_add_2 p0 p1 x3 x4 S2)) fun x5 S6 =>
  some ((1 : Int32), S6)
theorem mJ2_add {l : Launch} {D : gD} {K : gK} (hl : l.stackTraces = false) : ∀ (p0 : Option Nat) (p1 : Option Nat) (S : gS) (r : Int32) (S1 : gS), fJ2_add p0 p1 S = some (r, S1) → gMet l D K yJ2_add (ws_ yJ2_add cJ2_add 2 (Option.some Jvm.ClassFile.FieldType.boolean)) 7 310 [va_rf p0, va_rf p1] S (.inl (some (.int r))) S1 := by
  intro p0 p1 S r S1 hF
  unfold fJ2_add at hF
  refine gMet.of hl (by decide +kernel) rfl (gle (lgs_r (lgs_r lgs_0)) (by decide)) (fun p e s m below meth c R hRf hRl C _ => ?_)
  generalize hargs : ([va_rf p0, va_rf p1] : List Value).toArray = args at C ⊢
  generalize hu0 : S.2.2.1 = u0 at C ⊢
  rw [show lv_args 0 [va_rf p0, va_rf p1] = [(0, va_rf p0), (1, va_rf p1)] from (lva_r rfl (lva_r rfl lva_0))]
  refine g_aload_n C 0 dJ2_add_0 rfl ?_
  refine g_dup C dJ2_add_1 (g_cr _) ?_
  refine g_getI C dJ2_add_2 fd_0 (Or.inl q500) (Or.inr q501) hF (fun x1 hF => ?_)
  refine g_iconst (v := (1 : Int32)) C dJ2_add_5 rfl ?_
  refine g_iadd C dJ2_add_6 ?_
  refine g_put C dJ2_add_7 fd_0 (Or.inl q500) (Or.inr q501) pf_0 rfl rfl hF (fun S2 hF => ?_)
  refine g_aload_n C 0 dJ2_add_10 rfl ?_
  refine g_aload_n C 1 dJ2_add_11 rfl ?_
  refine g_aload_n C 0 dJ2_add_12 rfl ?_
  refine g_getR C dJ2_add_13 fd_1 (Or.inl q497) (Or.inl rfl) hF (fun x3 hF => ?_)
  refine g_aload_n C 0 dJ2_add_16 rfl ?_
  refine g_getI C dJ2_add_17 fd_2 (Or.inl q498) (Or.inl rfl) hF (fun x4 hF => ?_)
  obtain ⟨x5, S6, h, hF⟩ := gB_some hF
  obtain ⟨hi, h⟩ := gV_some h
  refine g_after (g_runV (n := 3) C dJ2_add_20 rfl hi (mJ2_add_2 C.2.2.2.2.2.2.2.2.2.2.2.1 p0 p1 x3 x4 S2 _ _ h) (lw_V q1183 q1185 qs21 q103 q1186) (by decide +kernel) ⟨by rw [hRf]; exact Nat.le_of_ble_eq_true rfl, by rw [hRl]; exact Nat.le_of_ble_eq_true rfl⟩ rfl rfl (gle gc_0 (by decide))) ?_
  refine g_iconst (v := (1 : Int32)) C dJ2_add_23 rfl ?_
  cases hF
  exact g_zret (ty := .boolean) C (rfl) dJ2_add_24 rfl rfl
/-! java/lang/Throwable.<init>(Ljava/lang/String;Ljava/lang/Throwable;ZZ)V -/
def fJ3_init_3 (p0 : Option Nat) (p1 : Option Nat) (p2 : Option Nat) (p3 : Int32) (p4 : Int32) (S : gS) : Option (Unit × gS) :=
  (if p0.isSome = true then
  (oPut [5] 0 p0 (va_rf p0) S).bind fun S1 =>
  (oPut [5] 1 p0 (va_rf (S1.2.2.2.2.2 0)) S1).bind fun S2 =>
  (oPut [5] 2 p0 (va_rf (S2.2.2.2.2.2 1)) S2).bind fun S3 =>
  (if p4 = 0 then
  (oPut [5] 1 p0 (va_rf none) S3).bind fun S4 =>
  (oPut [5] 3 p0 (va_rf p1) S4).bind fun S5 =>
  (oPut [5] 0 p0 (va_rf p2) S5).bind fun S6 =>
  (if p3 = 0 then
  (oPut [5] 2 p0 (va_rf none) S6).bind fun S7 =>
  some ((), S7)
  else
  some ((), S6))
  else
  none)
  else none)
theorem mJ3_init_3 {l : Launch} {D : gD} {K : gK} (hl : l.stackTraces = false) : ∀ (p0 : Option Nat) (p1 : Option Nat) (p2 : Option Nat) (p3 : Int32) (p4 : Int32) (S : gS) (r : Unit) (S1 : gS), fJ3_init_3 p0 p1 p2 p3 p4 S = some (r, S1) → gMet l D K yJ3_init_3 (ws_ yJ3_init_3 cJ3_init_3 5 (Option.none : Option Jvm.ClassFile.FieldType)) 1 100 [va_rf p0, va_rf p1, va_rf p2, .int p3, .int p4] S (.inl none) S1 := by
  intro p0 p1 p2 p3 p4 S r S1 hF
  unfold fJ3_init_3 at hF
  refine gMet.of hl (by decide +kernel) rfl (gle (lgs_r (lgs_r (lgs_r (lgs_i (lgs_i lgs_0))))) (by decide)) (fun p e s m below meth c R hRf hRl C _ => ?_)
  generalize hargs : ([va_rf p0, va_rf p1, va_rf p2, .int p3, .int p4] : List Value).toArray = args at C ⊢
  generalize hu0 : S.2.2.1 = u0 at C ⊢
  rw [show lv_args 0 [va_rf p0, va_rf p1, va_rf p2, .int p3, .int p4] = [(0, va_rf p0), (1, va_rf p1), (2, va_rf p2), (3, .int p3), (4, .int p4)] from (lva_r rfl (lva_r rfl (lva_r rfl (lva_i rfl (lva_i rfl lva_0)))))]
  refine g_aload_n C 0 dJ3_init_3_0 rfl ?_
  obtain ⟨hi, hF⟩ := gIf hF
  refine g_objInit C dJ3_init_3_1 hi q208 q159 q160 ⟨by rw [hRf]; exact Nat.le_of_ble_eq_true rfl, by rw [hRl]; exact Nat.le_of_ble_eq_true rfl⟩ (gle gc_0 (by decide)) ?_
  refine g_aload_n C 0 dJ3_init_3_4 rfl ?_
  refine g_aload_n C 0 dJ3_init_3_5 rfl ?_
  refine g_put C dJ3_init_3_6 fd_3 (Or.inl q459) (Or.inl rfl) pf_3 (nrR _ _ (by decide)) (fitR _ _ (by decide)) hF (fun S1 hF => ?_)
  refine g_aload_n C 0 dJ3_init_3_9 rfl ?_
  refine g_getsU C dJ3_init_3_10 q209 ?_
  refine g_put C dJ3_init_3_13 fd_4 (Or.inl q460) (Or.inl rfl) pf_5 (nrR _ _ (by decide)) (fitR _ _ (by decide)) hF (fun S2 hF => ?_)
  refine g_aload_n C 0 dJ3_init_3_16 rfl ?_
  refine g_getsN C dJ3_init_3_17 q211 ?_
  refine g_put C dJ3_init_3_20 fd_5 (Or.inl q461) (Or.inl rfl) pf_2 (nrR _ _ (by decide)) (fitR _ _ (by decide)) hF (fun S3 hF => ?_)
  refine g_iload C 4 dJ3_init_3_23 rfl ?_
  refine g_if_eq C 36 dJ3_init_3_25 rfl hF (fun c hF => ?_) (fun c hF => ?_)
  · refine g_aload_n C 0 dJ3_init_3_36 rfl ?_
    refine g_null C dJ3_init_3_37 ?_
    refine g_put C dJ3_init_3_38 fd_4 (Or.inl q460) (Or.inl rfl) pf_5 (nrR _ _ (by decide)) (fitR _ _ (by decide)) hF (fun S4 hF => ?_)
    refine g_aload_n C 0 dJ3_init_3_41 rfl ?_
    refine g_aload_n C 1 dJ3_init_3_42 rfl ?_
    refine g_put C dJ3_init_3_43 fd_6 (Or.inl q458) (Or.inl rfl) pf_4 (nrR _ _ (by decide)) (fitR _ _ (by decide)) hF (fun S5 hF => ?_)
    refine g_aload_n C 0 dJ3_init_3_46 rfl ?_
    refine g_aload_n C 2 dJ3_init_3_47 rfl ?_
    refine g_put C dJ3_init_3_48 fd_3 (Or.inl q459) (Or.inl rfl) pf_3 (nrR _ _ (by decide)) (fitR _ _ (by decide)) hF (fun S6 hF => ?_)
    refine g_iload_n C 3 dJ3_init_3_51 rfl ?_
    refine g_if_ne C 60 dJ3_init_3_52 rfl hF (fun c hF => ?_) (fun c hF => ?_)
    · cases hF
      exact g_vret C dJ3_init_3_60 rfl rfl
    · refine g_aload_n C 0 dJ3_init_3_55 rfl ?_
      refine g_null C dJ3_init_3_56 ?_
      refine g_put C dJ3_init_3_57 fd_5 (Or.inl q461) (Or.inl rfl) pf_2 (nrR _ _ (by decide)) (fitR _ _ (by decide)) hF (fun S7 hF => ?_)
      cases hF
      exact g_vret C dJ3_init_3_60 rfl rfl
  · cases hF
/-! java/lang/Exception.<init>(Ljava/lang/String;Ljava/lang/Throwable;ZZ)V -/
def fJ4_init_3 (p0 : Option Nat) (p1 : Option Nat) (p2 : Option Nat) (p3 : Int32) (p4 : Int32) (S : gS) : Option (Unit × gS) :=
  gB (gN p0 (fJ3_init_3 p0 p1 p2 p3 p4 S)) fun x1 S2 =>
  some ((), S2)
theorem mJ4_init_3 {l : Launch} {D : gD} {K : gK} (hl : l.stackTraces = false) : ∀ (p0 : Option Nat) (p1 : Option Nat) (p2 : Option Nat) (p3 : Int32) (p4 : Int32) (S : gS) (r : Unit) (S1 : gS), fJ4_init_3 p0 p1 p2 p3 p4 S = some (r, S1) → gMet l D K yJ4_init_3 (ws_ yJ4_init_3 cJ4_init_3 5 (Option.none : Option Jvm.ClassFile.FieldType)) 2 124 [va_rf p0, va_rf p1, va_rf p2, .int p3, .int p4] S (.inl none) S1 := by
  intro p0 p1 p2 p3 p4 S r S1 hF
  unfold fJ4_init_3 at hF
  refine gMet.of hl (by decide +kernel) rfl (gle (lgs_r (lgs_r (lgs_r (lgs_i (lgs_i lgs_0))))) (by decide)) (fun p e s m below meth c R hRf hRl C _ => ?_)
  generalize hargs : ([va_rf p0, va_rf p1, va_rf p2, .int p3, .int p4] : List Value).toArray = args at C ⊢
  generalize hu0 : S.2.2.1 = u0 at C ⊢
  rw [show lv_args 0 [va_rf p0, va_rf p1, va_rf p2, .int p3, .int p4] = [(0, va_rf p0), (1, va_rf p1), (2, va_rf p2), (3, .int p3), (4, .int p4)] from (lva_r rfl (lva_r rfl (lva_r rfl (lva_i rfl (lva_i rfl lva_0)))))]
  refine g_aload_n C 0 dJ4_init_3_0 rfl ?_
  refine g_aload_n C 1 dJ4_init_3_1 rfl ?_
  refine g_aload_n C 2 dJ4_init_3_2 rfl ?_
  refine g_iload_n C 3 dJ4_init_3_3 rfl ?_
  refine g_iload C 4 dJ4_init_3_4 rfl ?_
  obtain ⟨x1, S2, h, hF⟩ := gB_some hF
  obtain ⟨hi, h⟩ := gN_some h
  refine g_after (g_runI (n := 4) C dJ4_init_3_6 (mJ3_init_3 C.2.2.2.2.2.2.2.2.2.2.2.1 p0 p1 p2 p3 p4 S _ _ h) hi q1129 q104 q1127 q1128 rfl (by decide +kernel) ⟨by rw [hRf]; exact Nat.le_of_ble_eq_true rfl, by rw [hRl]; exact Nat.le_of_ble_eq_true rfl⟩ rfl rfl (gle gc_0 (by decide))) ?_
  cases hF
  exact g_vret C dJ4_init_3_9 rfl rfl
/-! java/lang/AbstractStringBuilder.<init>(I)V -/
def fJ7_init (p0 : Option Nat) (p1 : Int32) (S : gS) : Option (Unit × gS) :=
  (if p0.isSome = true then
  (if (1 : Int32) = 0 then
  none
  else
  gB (oNewA 1 p1 S) fun q1 S2 =>
  (oPut [29] 0 p0 (va_rf (some q1)) S2).bind fun S3 =>
  (oPutB [29] 1 p0 (0 : Int32) S3).bind fun S4 =>
  some ((), S4))
  else none)
theorem mJ7_init {l : Launch} {D : gD} {K : gK} (hl : l.stackTraces = false) : ∀ (p0 : Option Nat) (p1 : Int32) (S : gS) (r : Unit) (S1 : gS), fJ7_init p0 p1 S = some (r, S1) → gMet l D K yJ7_init (ws_ yJ7_init cJ7_init 2 (Option.none : Option Jvm.ClassFile.FieldType)) 1 100 [va_rf p0, .int p1] S (.inl none) S1 := by
  intro p0 p1 S r S1 hF
  unfold fJ7_init at hF
  refine gMet.of hl (by decide +kernel) rfl (gle (lgs_r (lgs_i lgs_0)) (by decide)) (fun p e s m below meth c R hRf hRl C _ => ?_)
  generalize hargs : ([va_rf p0, .int p1] : List Value).toArray = args at C ⊢
  generalize hu0 : S.2.2.1 = u0 at C ⊢
  rw [show lv_args 0 [va_rf p0, .int p1] = [(0, va_rf p0), (1, .int p1)] from (lva_r rfl (lva_i rfl lva_0))]
  refine g_aload_n C 0 dJ7_init_0 rfl ?_
  obtain ⟨hi, hF⟩ := gIf hF
  refine g_objInit C dJ7_init_1 hi q232 q159 q160 ⟨by rw [hRf]; exact Nat.le_of_ble_eq_true rfl, by rw [hRl]; exact Nat.le_of_ble_eq_true rfl⟩ (gle gc_0 (by decide)) ?_
  refine g_getsC C dJ7_init_4 q233 ?_
  refine g_if_eq C 25 dJ7_init_7 rfl hF (fun c hF => ?_) (fun c hF => ?_)
  · cases hF
  · refine g_aload_n C 0 dJ7_init_10 rfl ?_
    refine g_iload_n C 1 dJ7_init_11 rfl ?_
    refine g_newaB C dJ7_init_12 q255 hF (fun q1 S2 hF => ?_)
    refine g_put C dJ7_init_14 fd_7 (Or.inl q242) (Or.inl rfl) pf_7 (nrR _ _ (by decide)) (fitR _ _ (by decide)) hF (fun S3 hF => ?_)
    refine g_aload_n C 0 dJ7_init_17 rfl ?_
    refine g_iconst (v := (0 : Int32)) C dJ7_init_18 rfl ?_
    refine g_putB C dJ7_init_19 fd_8 (Or.inl q243) (Or.inl rfl) pf_6 hF (fun S4 hF => ?_)
    refine g_goto C 38 dJ7_init_22 rfl ?_
    cases hF
    exact g_vret C dJ7_init_38 rfl rfl
/-! java/lang/AbstractStringBuilder.ensureCapacityInternal(I)V -/
def fJ7_ensureCapacityInternal (p0 : Option Nat) (p1 : Int32) (S : gS) : Option Unit :=
  (oGetR [29] 0 p0 S).bind fun x1 =>
  (oLen x1 S).bind fun x2 =>
  (oGetI [29] 1 p0 S).bind fun x3 =>
  (if (p1 - (x2 >>> (x3 &&& 31))) ≤ 0 then
  some ()
  else
  none)
theorem mJ7_ensureCapacityInternal {l : Launch} {D : gD} {K : gK} (hl : l.stackTraces = false) : ∀ (p0 : Option Nat) (p1 : Int32) (S : gS) (r : Unit), fJ7_ensureCapacityInternal p0 p1 S = some r → gMet l D K yJ7_ensureCapacityInternal (ws_ yJ7_ensureCapacityInternal cJ7_ensureCapacityInternal 3 (Option.none : Option Jvm.ClassFile.FieldType)) 1 100 [va_rf p0, .int p1] S (.inl none) S := by
  intro p0 p1 S r hF
  unfold fJ7_ensureCapacityInternal at hF
  refine gMet.of hl (by decide +kernel) rfl (gle (lgs_r (lgs_i lgs_0)) (by decide)) (fun p e s m below meth c R hRf hRl C _ => ?_)
  generalize hargs : ([va_rf p0, .int p1] : List Value).toArray = args at C ⊢
  generalize hu0 : S.2.2.1 = u0 at C ⊢
  rw [show lv_args 0 [va_rf p0, .int p1] = [(0, va_rf p0), (1, .int p1)] from (lva_r rfl (lva_i rfl lva_0))]
  refine g_aload_n C 0 dJ7_ensureCapacityInternal_0 rfl ?_
  refine g_getR C dJ7_ensureCapacityInternal_1 fd_7 (Or.inl q242) (Or.inl rfl) hF (fun x1 hF => ?_)
  refine g_alen C dJ7_ensureCapacityInternal_4 hF (fun x2 hF => ?_)
  refine g_aload_n C 0 dJ7_ensureCapacityInternal_5 rfl ?_
  refine g_getI C dJ7_ensureCapacityInternal_6 fd_8 (Or.inl q243) (Or.inl rfl) hF (fun x3 hF => ?_)
  refine g_ishr C dJ7_ensureCapacityInternal_9 ?_
  refine g_istore_n C dJ7_ensureCapacityInternal_10 (by decide) rfl ?_
  refine g_iload_n C 2 dJ7_ensureCapacityInternal_11 rfl ?_
  refine g_iload_n C 0 dJ7_ensureCapacityInternal_12 rfl ?_
  refine g_isub C dJ7_ensureCapacityInternal_13 ?_
  refine g_if_le C 38 dJ7_ensureCapacityInternal_14 rfl hF (fun c hF => ?_) (fun c hF => ?_)
  · cases hF
    exact g_vret C dJ7_ensureCapacityInternal_38 rfl rfl
  · cases hF
/-! java/lang/AbstractStringBuilder.isLatin1()Z -/
def fJ7_isLatin1 (p0 : Option Nat) (S : gS) : Option Int32 :=
  (if (1 : Int32) = 0 then
  some (0 : Int32)
  else
  (oGetI [29] 1 p0 S).bind fun x1 =>
  (if x1 = 0 then
  some (1 : Int32)
  else
  some (0 : Int32)))
theorem mJ7_isLatin1 {l : Launch} {D : gD} {K : gK} (hl : l.stackTraces = false) : ∀ (p0 : Option Nat) (S : gS) (r : Int32), fJ7_isLatin1 p0 S = some r → gMet l D K yJ7_isLatin1 (ws_ yJ7_isLatin1 cJ7_isLatin1 1 (Option.some Jvm.ClassFile.FieldType.boolean)) 1 100 [va_rf p0] S (.inl (some (.int r))) S := by
  intro p0 S r hF
  unfold fJ7_isLatin1 at hF
  refine gMet.of hl (by decide +kernel) rfl (gle (lgs_r lgs_0) (by decide)) (fun p e s m below meth c R hRf hRl C _ => ?_)
  generalize hargs : ([va_rf p0] : List Value).toArray = args at C ⊢
  generalize hu0 : S.2.2.1 = u0 at C ⊢
  rw [show lv_args 0 [va_rf p0] = [(0, va_rf p0)] from (lva_r rfl lva_0)]
  refine g_getsC C dJ7_isLatin1_0 q233 ?_
  refine g_if_eq C 17 dJ7_isLatin1_3 rfl hF (fun c hF => ?_) (fun c hF => ?_)
  · refine g_iconst (v := (0 : Int32)) C dJ7_isLatin1_17 rfl ?_
    cases hF
    exact g_zret (ty := .boolean) C (rfl) dJ7_isLatin1_18 rfl rfl
  · refine g_aload_n C 0 dJ7_isLatin1_6 rfl ?_
    refine g_getI C dJ7_isLatin1_7 fd_8 (Or.inl q243) (Or.inl rfl) hF (fun x1 hF => ?_)
    refine g_if_ne C 17 dJ7_isLatin1_10 rfl hF (fun c hF => ?_) (fun c hF => ?_)
    · refine g_iconst (v := (0 : Int32)) C dJ7_isLatin1_17 rfl ?_
      cases hF
      exact g_zret (ty := .boolean) C (rfl) dJ7_isLatin1_18 rfl rfl
    · refine g_iconst (v := (1 : Int32)) C dJ7_isLatin1_13 rfl ?_
      refine g_goto C 18 dJ7_isLatin1_14 rfl ?_
      cases hF
      exact g_zret (ty := .boolean) C (rfl) dJ7_isLatin1_18 rfl rfl
/-! java/lang/AbstractStringBuilder.getValue()[B -/
def fJ7_getValue (p0 : Option Nat) (S : gS) : Option (Option Nat) :=
  (oGetR [29] 0 p0 S).bind fun x1 =>
  some x1
theorem mJ7_getValue {l : Launch} {D : gD} {K : gK} (hl : l.stackTraces = false) : ∀ (p0 : Option Nat) (S : gS) (r : Option Nat), fJ7_getValue p0 S = some r → gMet l D K yJ7_getValue (ws_ yJ7_getValue cJ7_getValue 1 (Option.some (Jvm.ClassFile.FieldType.array Jvm.ClassFile.FieldType.byte))) 1 100 [va_rf p0] S (.inl (some (va_rf r))) S := by
  intro p0 S r hF
  unfold fJ7_getValue at hF
  refine gMet.of hl (by decide +kernel) rfl (gle (lgs_r lgs_0) (by decide)) (fun p e s m below meth c R hRf hRl C _ => ?_)
  generalize hargs : ([va_rf p0] : List Value).toArray = args at C ⊢
  generalize hu0 : S.2.2.1 = u0 at C ⊢
  rw [show lv_args 0 [va_rf p0] = [(0, va_rf p0)] from (lva_r rfl lva_0)]
  refine g_aload_n C 0 dJ7_getValue_0 rfl ?_
  refine g_getR C dJ7_getValue_1 fd_7 (Or.inl q242) (Or.inl rfl) hF (fun x1 hF => ?_)
  cases hF
  exact g_aret C (Or.inr ⟨_, rfl⟩) dJ7_getValue_4 rfl rfl
/-! java/lang/AbstractStringBuilder.length()I -/
def fJ7_length (p0 : Option Nat) (S : gS) : Option Int32 :=
  (oGetI [29] 3 p0 S).bind fun x1 =>
  some x1
theorem mJ7_length {l : Launch} {D : gD} {K : gK} (hl : l.stackTraces = false) : ∀ (p0 : Option Nat) (S : gS) (r : Int32), fJ7_length p0 S = some r → gMet l D K yJ7_length (ws_ yJ7_length cJ7_length 1 (Option.some Jvm.ClassFile.FieldType.int)) 1 100 [va_rf p0] S (.inl (some (.int r))) S := by
  intro p0 S r hF
  unfold fJ7_length at hF
  refine gMet.of hl (by decide +kernel) rfl (gle (lgs_r lgs_0) (by decide)) (fun p e s m below meth c R hRf hRl C _ => ?_)
  generalize hargs : ([va_rf p0] : List Value).toArray = args at C ⊢
  generalize hu0 : S.2.2.1 = u0 at C ⊢
  rw [show lv_args 0 [va_rf p0] = [(0, va_rf p0)] from (lva_r rfl lva_0)]
  refine g_aload_n C 0 dJ7_length_0 rfl ?_
  refine g_getI C dJ7_length_1 fd_9 (Or.inl q245) (Or.inl rfl) hF (fun x1 hF => ?_)
  cases hF
  exact g_iret C dJ7_length_4 rfl rfl
/-! java/lang/AbstractStringBuilder.append(C)Ljava/lang/AbstractStringBuilder; -/
def fJ7_append_3 (p0 : Option Nat) (p1 : Int32) (S : gS) : Option ((Option Nat) × gS) :=
  (oGetI [29] 3 p0 S).bind fun x1 =>
  (gV [29] p0 S (fJ7_ensureCapacityInternal p0 (x1 + (1 : Int32)) S)).bind fun x2 =>
  (gV [29] p0 S (fJ7_isLatin1 p0 S)).bind fun x3 =>
  (if x3 = 0 then
  none
  else
  (if (fJ15_canEncode p1) = 0 then
  none
  else
  (oGetR [29] 0 p0 S).bind fun x4 =>
  (oGetI [29] 3 p0 S).bind fun x5 =>
  (oPut [29] 3 p0 (.int (x5 + (1 : Int32))) S).bind fun S6 =>
  (oStI 1 x4 x5 p1.toInt8.toInt32 S6).bind fun S7 =>
  some (p0, S7)))
theorem mJ7_append_3 {l : Launch} {D : gD} {K : gK} (hl : l.stackTraces = false) : ∀ (p0 : Option Nat) (p1 : Int32) (S : gS) (r : Option Nat) (S1 : gS), fJ7_append_3 p0 p1 S = some (r, S1) → gMet l D K yJ7_append_3 (ws_ yJ7_append_3 cJ7_append_3 2 (Option.some (Jvm.ClassFile.FieldType.object "java/lang/AbstractStringBuilder"))) 2 122 [va_rf p0, .int p1] S (.inl (some (va_rf r))) S1 := by
  intro p0 p1 S r S1 hF
  unfold fJ7_append_3 at hF
  refine gMet.of hl (by decide +kernel) rfl (gle (lgs_r (lgs_i lgs_0)) (by decide)) (fun p e s m below meth c R hRf hRl C _ => ?_)
  generalize hargs : ([va_rf p0, .int p1] : List Value).toArray = args at C ⊢
  generalize hu0 : S.2.2.1 = u0 at C ⊢
  rw [show lv_args 0 [va_rf p0, .int p1] = [(0, va_rf p0), (1, .int p1)] from (lva_r rfl (lva_i rfl lva_0))]
  refine g_aload_n C 0 dJ7_append_3_0 rfl ?_
  refine g_aload_n C 0 dJ7_append_3_1 rfl ?_
  refine g_getI C dJ7_append_3_2 fd_9 (Or.inl q245) (Or.inl rfl) hF (fun x1 hF => ?_)
  refine g_iconst (v := (1 : Int32)) C dJ7_append_3_5 rfl ?_
  refine g_iadd C dJ7_append_3_6 ?_
  obtain ⟨x2, h, hF⟩ := oB hF
  obtain ⟨hi, h⟩ := gV_some h
  refine g_after (g_runP (n := 1) C dJ7_append_3_7 rfl hi (mJ7_ensureCapacityInternal C.2.2.2.2.2.2.2.2.2.2.2.1 p0 (x1 + (1 : Int32)) S _ h) q271 q108 q268 q2609 rfl q270 (by decide +kernel) ⟨by rw [hRf]; exact Nat.le_of_ble_eq_true rfl, by rw [hRl]; exact Nat.le_of_ble_eq_true rfl⟩ rfl rfl (gle gc_0 (by decide))) ?_
  refine g_aload_n C 0 dJ7_append_3_10 rfl ?_
  obtain ⟨x3, h, hF⟩ := oB hF
  obtain ⟨hi, h⟩ := gV_some h
  refine g_after (g_runW (n := 0) C dJ7_append_3_11 hi (mJ7_isLatin1 C.2.2.2.2.2.2.2.2.2.2.2.1 p0 S _ h) q307 q108 q303 q305 (Or.inl ⟨q304, _, _, _, q307⟩) seln_J7_append_3_11 q304 (by decide +kernel) ⟨by rw [hRf]; exact Nat.le_of_ble_eq_true rfl, by rw [hRl]; exact Nat.le_of_ble_eq_true rfl⟩ rfl rfl (gle gc_0 (by decide))) ?_
  refine g_if_eq C 45 dJ7_append_3_14 rfl hF (fun c hF => ?_) (fun c hF => ?_)
  · cases hF
  · refine g_iload_n C 1 dJ7_append_3_17 rfl ?_
    refine g_after (g_runS (n := 1) C dJ7_append_3_18 (mJ15_canEncode C.2.2.2.2.2.2.2.2.2.2.2.1 p1 S _ rfl) (lw_S q1015 q1016 q117 q1017) (by decide +kernel) ⟨by rw [hRf]; exact Nat.le_of_ble_eq_true rfl, by rw [hRl]; exact Nat.le_of_ble_eq_true rfl⟩ rfl rfl (gle gc_0 (by decide))) ?_
    refine g_if_eq C 45 dJ7_append_3_21 rfl hF (fun c hF => ?_) (fun c hF => ?_)
    · cases hF
    · refine g_aload_n C 0 dJ7_append_3_24 rfl ?_
      refine g_getR C dJ7_append_3_25 fd_7 (Or.inl q242) (Or.inl rfl) hF (fun x4 hF => ?_)
      refine g_aload_n C 0 dJ7_append_3_28 rfl ?_
      refine g_dup C dJ7_append_3_29 (g_cr _) ?_
      refine g_getI C dJ7_append_3_30 fd_9 (Or.inl q245) (Or.inl rfl) hF (fun x5 hF => ?_)
      refine g_dup_x1 C dJ7_append_3_33 rfl (g_cr _) ?_
      refine g_iconst (v := (1 : Int32)) C dJ7_append_3_34 rfl ?_
      refine g_iadd C dJ7_append_3_35 ?_
      refine g_put C dJ7_append_3_36 fd_9 (Or.inl q245) (Or.inl rfl) pf_0 rfl rfl hF (fun S6 hF => ?_)
      refine g_iload_n C 1 dJ7_append_3_39 rfl ?_
      refine g_i2b C dJ7_append_3_40 ?_
      refine g_bast C dJ7_append_3_41 hF (fun S7 hF => ?_)
      refine g_goto C 75 dJ7_append_3_42 rfl ?_
      refine g_aload_n C 0 dJ7_append_3_75 rfl ?_
      cases hF
      exact g_aret C (Or.inl ⟨_, rfl⟩) dJ7_append_3_76 rfl rfl
/-! java/lang/StringBuilder.<init>()V -/
def fJ8_init (p0 : Option Nat) (S : gS) : Option (Unit × gS) :=
  gB (gN p0 (fJ7_init p0 (16 : Int32) S)) fun x1 S2 =>
  some ((), S2)
theorem mJ8_init {l : Launch} {D : gD} {K : gK} (hl : l.stackTraces = false) : ∀ (p0 : Option Nat) (S : gS) (r : Unit) (S1 : gS), fJ8_init p0 S = some (r, S1) → gMet l D K yJ8_init (ws_ yJ8_init cJ8_init 1 (Option.none : Option Jvm.ClassFile.FieldType)) 2 121 [va_rf p0] S (.inl none) S1 := by
  intro p0 S r S1 hF
  unfold fJ8_init at hF
  refine gMet.of hl (by decide +kernel) rfl (gle (lgs_r lgs_0) (by decide)) (fun p e s m below meth c R hRf hRl C _ => ?_)
  generalize hargs : ([va_rf p0] : List Value).toArray = args at C ⊢
  generalize hu0 : S.2.2.1 = u0 at C ⊢
  rw [show lv_args 0 [va_rf p0] = [(0, va_rf p0)] from (lva_r rfl lva_0)]
  refine g_aload_n C 0 dJ8_init_0 rfl ?_
  refine g_bipush (v := (16 : Int32)) C dJ8_init_1 rfl ?_
  obtain ⟨x1, S2, h, hF⟩ := gB_some hF
  obtain ⟨hi, h⟩ := gN_some h
  refine g_after (g_runI (n := 1) C dJ8_init_3 (mJ7_init C.2.2.2.2.2.2.2.2.2.2.2.1 p0 (16 : Int32) S _ _ h) hi q231 q108 q229 q230 rfl (by decide +kernel) ⟨by rw [hRf]; exact Nat.le_of_ble_eq_true rfl, by rw [hRl]; exact Nat.le_of_ble_eq_true rfl⟩ rfl rfl (gle gc_0 (by decide))) ?_
  cases hF
  exact g_vret C dJ8_init_6 rfl rfl
/-! java/lang/StringBuilder.length()I -/
def fJ8_length (p0 : Option Nat) (S : gS) : Option Int32 :=
  (gV [29] p0 S (fJ7_length p0 S)).bind fun x1 =>
  some x1
theorem mJ8_length {l : Launch} {D : gD} {K : gK} (hl : l.stackTraces = false) : ∀ (p0 : Option Nat) (S : gS) (r : Int32), fJ8_length p0 S = some r → gMet l D K yJ8_length (ws_ yJ8_length cJ8_length 1 (Option.some Jvm.ClassFile.FieldType.int)) 2 120 [va_rf p0] S (.inl (some (.int r))) S := by
  intro p0 S r hF
  unfold fJ8_length at hF
  refine gMet.of hl (by decide +kernel) rfl (gle (lgs_r lgs_0) (by decide)) (fun p e s m below meth c R hRf hRl C _ => ?_)
  generalize hargs : ([va_rf p0] : List Value).toArray = args at C ⊢
  generalize hu0 : S.2.2.1 = u0 at C ⊢
  rw [show lv_args 0 [va_rf p0] = [(0, va_rf p0)] from (lva_r rfl lva_0)]
  refine g_aload_n C 0 dJ8_length_0 rfl ?_
  obtain ⟨x1, h, hF⟩ := oB hF
  obtain ⟨hi, h⟩ := gV_some h
  refine g_after (g_runSU (n := 0) C dJ8_length_1 rfl hi (mJ7_length C.2.2.2.2.2.2.2.2.2.2.2.1 p0 S _ h) q427 q108 q426 q422 q254 q421 (by decide) (by decide +kernel) ⟨by rw [hRf]; exact Nat.le_of_ble_eq_true rfl, by rw [hRl]; exact Nat.le_of_ble_eq_true rfl⟩ rfl rfl (gle gc_0 (by decide))) ?_
  cases hF
  exact g_iret C dJ8_length_4 rfl rfl
/-! java/lang/String.<init>(Ljava/lang/AbstractStringBuilder;Ljava/lang/Void;)V -/
def fJ9_init_2 (p0 : Option Nat) (p1 : Option Nat) (p2 : Option Nat) (S : gS) : Option (Unit × gS) :=
  (if p0.isSome = true then
  (gV [29] p1 S (fJ7_getValue p1 S)).bind fun x1 =>
  (gV [29] p1 S (fJ8_length p1 S)).bind fun x2 =>
  (gV [29] p1 S (fJ7_isLatin1 p1 S)).bind fun x3 =>
  (if x3 = 0 then
  none
  else
  (oPutB [30] 1 p0 (0 : Int32) S).bind fun S4 =>
  gB (fJ13_copyOfRange x1 (0 : Int32) x2 S4) fun x5 S6 =>
  (oPut [30] 0 p0 (va_rf x5) S6).bind fun S7 =>
  some ((), S7))
  else none)
theorem mJ9_init_2 {l : Launch} {D : gD} {K : gK} (hl : l.stackTraces = false) : ∀ (p0 : Option Nat) (p1 : Option Nat) (p2 : Option Nat) (S : gS) (r : Unit) (S1 : gS), fJ9_init_2 p0 p1 p2 S = some (r, S1) → gMet l D K yJ9_init_2 (ws_ yJ9_init_2 cJ9_init_2 5 (Option.none : Option Jvm.ClassFile.FieldType)) 4 246 [va_rf p0, va_rf p1, va_rf p2] S (.inl none) S1 := by
  intro p0 p1 p2 S r S1 hF
  unfold fJ9_init_2 at hF
  refine gMet.of hl (by decide +kernel) rfl (gle (lgs_r (lgs_r (lgs_r lgs_0))) (by decide)) (fun p e s m below meth c R hRf hRl C _ => ?_)
  generalize hargs : ([va_rf p0, va_rf p1, va_rf p2] : List Value).toArray = args at C ⊢
  generalize hu0 : S.2.2.1 = u0 at C ⊢
  rw [show lv_args 0 [va_rf p0, va_rf p1, va_rf p2] = [(0, va_rf p0), (1, va_rf p1), (2, va_rf p2)] from (lva_r rfl (lva_r rfl (lva_r rfl lva_0)))]
  refine g_aload_n C 0 dJ9_init_2_0 rfl ?_
  obtain ⟨hi, hF⟩ := gIf hF
  refine g_objInit C dJ9_init_2_1 hi q414 q159 q160 ⟨by rw [hRf]; exact Nat.le_of_ble_eq_true rfl, by rw [hRl]; exact Nat.le_of_ble_eq_true rfl⟩ (gle gc_0 (by decide)) ?_
  refine g_aload_n C 1 dJ9_init_2_4 rfl ?_
  obtain ⟨x1, h, hF⟩ := oB hF
  obtain ⟨hi, h⟩ := gV_some h
  refine g_after (g_runW (n := 0) C dJ9_init_2_5 hi (mJ7_getValue C.2.2.2.2.2.2.2.2.2.2.2.1 p1 S _ h) q419 q108 q415 q417 (Or.inl ⟨q416, _, _, _, q419⟩) seln_J9_init_2_5 q416 (by decide +kernel) ⟨by rw [hRf]; exact Nat.le_of_ble_eq_true rfl, by rw [hRl]; exact Nat.le_of_ble_eq_true rfl⟩ rfl rfl (gle gc_0 (by decide))) ?_
  refine g_astore_n C dJ9_init_2_8 (by decide) (gcons rfl (gfk rfl rfl (gfk rfl rfl (gfr rfl gf0)))) ?_
  refine g_aload_n C 2 dJ9_init_2_9 rfl ?_
  obtain ⟨x2, h, hF⟩ := oB hF
  obtain ⟨hi, h⟩ := gV_some h
  refine g_after (g_runW (n := 0) C dJ9_init_2_10 hi (mJ8_length C.2.2.2.2.2.2.2.2.2.2.2.1 p1 S _ h) q425 q109 q420 q422 (Or.inl ⟨q421, _, _, _, q427⟩) seln_J9_init_2_10 q424 (by decide +kernel) ⟨by rw [hRf]; exact Nat.le_of_ble_eq_true rfl, by rw [hRl]; exact Nat.le_of_ble_eq_true rfl⟩ rfl rfl (gle gc_0 (by decide))) ?_
  refine g_istore C dJ9_init_2_13 (by decide) (gcons rfl (gfr rfl (gfk rfl rfl (gfk rfl rfl (gfk rfl rfl gf0))))) ?_
  refine g_aload_n C 3 dJ9_init_2_15 rfl ?_
  obtain ⟨x3, h, hF⟩ := oB hF
  obtain ⟨hi, h⟩ := gV_some h
  refine g_after (g_runW (n := 0) C dJ9_init_2_16 hi (mJ7_isLatin1 C.2.2.2.2.2.2.2.2.2.2.2.1 p1 S _ h) q307 q108 q428 q305 (Or.inl ⟨q304, _, _, _, q307⟩) seln_J9_init_2_16 q304 (by decide +kernel) ⟨by rw [hRf]; exact Nat.le_of_ble_eq_true rfl, by rw [hRl]; exact Nat.le_of_ble_eq_true rfl⟩ rfl rfl (gle gc_0 (by decide))) ?_
  refine g_if_eq C 41 dJ9_init_2_19 rfl hF (fun c hF => ?_) (fun c hF => ?_)
  · cases hF
  · refine g_aload_n C 2 dJ9_init_2_22 rfl ?_
    refine g_iconst (v := (0 : Int32)) C dJ9_init_2_23 rfl ?_
    refine g_putFB C rfl dJ9_init_2_24 fd_10 q484 pf_6 hF (fun S4 hF => ?_)
    refine g_aload_n C 2 dJ9_init_2_27 rfl ?_
    refine g_aload_n C 1 dJ9_init_2_28 rfl ?_
    refine g_iconst (v := (0 : Int32)) C dJ9_init_2_29 rfl ?_
    refine g_iload C 0 dJ9_init_2_30 rfl ?_
    obtain ⟨x5, S6, h, hF⟩ := gB_some hF
    refine g_after (g_runS (n := 3) C dJ9_init_2_32 (mJ13_copyOfRange C.2.2.2.2.2.2.2.2.2.2.2.1 x1 (0 : Int32) x2 S4 _ _ h) (lw_S q429 q430 q114 q431) (by decide +kernel) ⟨by rw [hRf]; exact Nat.le_of_ble_eq_true rfl, by rw [hRl]; exact Nat.le_of_ble_eq_true rfl⟩ rfl rfl (gle (gc_r gc_0) (by decide))) ?_
    refine g_putF C rfl dJ9_init_2_35 fd_11 q483 pf_7 (nrR _ _ (by decide)) (fitR _ _ (by decide)) hF (fun S7 hF => ?_)
    refine g_goto C 97 dJ9_init_2_38 rfl ?_
    cases hF
    exact g_vret C dJ9_init_2_97 rfl rfl
/-! java/lang/String.<init>(Ljava/lang/StringBuilder;)V -/
def fJ9_init (p0 : Option Nat) (p1 : Option Nat) (S : gS) : Option (Unit × gS) :=
  gB (gN p0 (fJ9_init_2 p0 p1 none S)) fun x1 S2 =>
  some ((), S2)
theorem mJ9_init {l : Launch} {D : gD} {K : gK} (hl : l.stackTraces = false) : ∀ (p0 : Option Nat) (p1 : Option Nat) (S : gS) (r : Unit) (S1 : gS), fJ9_init p0 p1 S = some (r, S1) → gMet l D K yJ9_init (ws_ yJ9_init cJ9_init 2 (Option.none : Option Jvm.ClassFile.FieldType)) 5 270 [va_rf p0, va_rf p1] S (.inl none) S1 := by
  intro p0 p1 S r S1 hF
  unfold fJ9_init at hF
  refine gMet.of hl (by decide +kernel) rfl (gle (lgs_r (lgs_r lgs_0)) (by decide)) (fun p e s m below meth c R hRf hRl C _ => ?_)
  generalize hargs : ([va_rf p0, va_rf p1] : List Value).toArray = args at C ⊢
  generalize hu0 : S.2.2.1 = u0 at C ⊢
  rw [show lv_args 0 [va_rf p0, va_rf p1] = [(0, va_rf p0), (1, va_rf p1)] from (lva_r rfl (lva_r rfl lva_0))]
  refine g_aload_n C 0 dJ9_init_0 rfl ?_
  refine g_aload_n C 1 dJ9_init_1 rfl ?_
  refine g_null C dJ9_init_2 ?_
  obtain ⟨x1, S2, h, hF⟩ := gB_some hF
  obtain ⟨hi, h⟩ := gN_some h
  refine g_after (g_runI (n := 2) C dJ9_init_3 (mJ9_init_2 C.2.2.2.2.2.2.2.2.2.2.2.1 p0 p1 none S _ _ h) hi q413 q110 q411 q412 rfl (by decide +kernel) ⟨by rw [hRf]; exact Nat.le_of_ble_eq_true rfl, by rw [hRl]; exact Nat.le_of_ble_eq_true rfl⟩ rfl rfl (gle gc_0 (by decide))) ?_
  cases hF
  exact g_vret C dJ9_init_6 rfl rfl
/-! java/lang/StringBuilder.toString()Ljava/lang/String; -/
def fJ8_toString (p0 : Option Nat) (S : gS) : Option ((Option Nat) × gS) :=
  gB (oNew 30 [.null, .int 0, .int 0, .int 0] S) fun q1 S2 =>
  gB (fJ9_init (some q1) p0 S2) fun x3 S4 =>
  some (some q1, S4)
theorem mJ8_toString {l : Launch} {D : gD} {K : gK} (hl : l.stackTraces = false) : ∀ (p0 : Option Nat) (S : gS) (r : Option Nat) (S1 : gS), fJ8_toString p0 S = some (r, S1) → gMet l D K yJ8_toString (ws_ yJ8_toString cJ8_toString 1 (Option.some (Jvm.ClassFile.FieldType.object "java/lang/String"))) 6 291 [va_rf p0] S (.inl (some (va_rf r))) S1 := by
  intro p0 S r S1 hF
  unfold fJ8_toString at hF
  refine gMet.of hl (by decide +kernel) rfl (gle (lgs_r lgs_0) (by decide)) (fun p e s m below meth c R hRf hRl C _ => ?_)
  generalize hargs : ([va_rf p0] : List Value).toArray = args at C ⊢
  generalize hu0 : S.2.2.1 = u0 at C ⊢
  rw [show lv_args 0 [va_rf p0] = [(0, va_rf p0)] from (lva_r rfl lva_0)]
  refine g_new (ty := tyJ9) C dJ8_toString_0 rfl q406 q407 q110 tyJ9_ok rfl hF (fun q1 S2 hF => ?_)
  refine g_dup C dJ8_toString_3 (g_cr _) ?_
  refine g_aload_n C 0 dJ8_toString_4 rfl ?_
  obtain ⟨x3, S4, h, hF⟩ := gB_some hF
  refine g_after (g_runI (n := 1) C dJ8_toString_5 (mJ9_init C.2.2.2.2.2.2.2.2.2.2.2.1 (some q1) p0 S2 _ _ h) rfl q410 q110 q408 q409 rfl (by decide +kernel) ⟨by rw [hRf]; exact Nat.le_of_ble_eq_true rfl, by rw [hRl]; exact Nat.le_of_ble_eq_true rfl⟩ rfl rfl (gle (gc_r gc_0) (by decide))) ?_
  cases hF
  exact g_aret C (Or.inl ⟨_, rfl⟩) dJ8_toString_8 rfl rfl
/-! java/lang/StringBuilder.append(C)Ljava/lang/StringBuilder; -/
def fJ8_append_3 (p0 : Option Nat) (p1 : Int32) (S : gS) : Option ((Option Nat) × gS) :=
  gB (gV [29] p0 S (fJ7_append_3 p0 p1 S)) fun x1 S2 =>
  some (p0, S2)
theorem mJ8_append_3 {l : Launch} {D : gD} {K : gK} (hl : l.stackTraces = false) : ∀ (p0 : Option Nat) (p1 : Int32) (S : gS) (r : Option Nat) (S1 : gS), fJ8_append_3 p0 p1 S = some (r, S1) → gMet l D K yJ8_append_3 (ws_ yJ8_append_3 cJ8_append_3 2 (Option.some (Jvm.ClassFile.FieldType.object "java/lang/StringBuilder"))) 3 143 [va_rf p0, .int p1] S (.inl (some (va_rf r))) S1 := by
  intro p0 p1 S r S1 hF
  unfold fJ8_append_3 at hF
  refine gMet.of hl (by decide +kernel) rfl (gle (lgs_r (lgs_i lgs_0)) (by decide)) (fun p e s m below meth c R hRf hRl C _ => ?_)
  generalize hargs : ([va_rf p0, .int p1] : List Value).toArray = args at C ⊢
  generalize hu0 : S.2.2.1 = u0 at C ⊢
  rw [show lv_args 0 [va_rf p0, .int p1] = [(0, va_rf p0), (1, .int p1)] from (lva_r rfl (lva_i rfl lva_0))]
  refine g_aload_n C 0 dJ8_append_3_0 rfl ?_
  refine g_iload_n C 1 dJ8_append_3_1 rfl ?_
  obtain ⟨x1, S2, h, hF⟩ := gB_some hF
  obtain ⟨hi, h⟩ := gV_some h
  refine g_after (g_runSU (n := 1) C dJ8_append_3_2 rfl hi (mJ7_append_3 C.2.2.2.2.2.2.2.2.2.2.2.1 p0 p1 S _ _ h) q1014 q108 q1012 q2621 q254 q1013 (by decide) (by decide +kernel) ⟨by rw [hRf]; exact Nat.le_of_ble_eq_true rfl, by rw [hRl]; exact Nat.le_of_ble_eq_true rfl⟩ rfl rfl (gle gc_0 (by decide))) ?_
  refine g_pop C dJ8_append_3_5 (g_cr _) ?_
  refine g_aload_n C 0 dJ8_append_3_6 rfl ?_
  cases hF
  exact g_aret C (Or.inl ⟨_, rfl⟩) dJ8_append_3_7 rfl rfl
/-! java/lang/String.coder()B -/
def fJ9_coder (p0 : Option Nat) (S : gS) : Option Int32 :=
  (if (1 : Int32) = 0 then
  some (1 : Int32)
  else
  (oGetI [30] 1 p0 S).bind fun x1 =>
  (if (x1.toInt8.toInt32 = x1) then some x1 else none))
theorem mJ9_coder {l : Launch} {D : gD} {K : gK} (hl : l.stackTraces = false) : ∀ (p0 : Option Nat) (S : gS) (r : Int32), fJ9_coder p0 S = some r → gMet l D K yJ9_coder (ws_ yJ9_coder cJ9_coder 1 (Option.some Jvm.ClassFile.FieldType.byte)) 1 100 [va_rf p0] S (.inl (some (.int r))) S := by
  intro p0 S r hF
  unfold fJ9_coder at hF
  refine gMet.of hl (by decide +kernel) rfl (gle (lgs_r lgs_0) (by decide)) (fun p e s m below meth c R hRf hRl C _ => ?_)
  generalize hargs : ([va_rf p0] : List Value).toArray = args at C ⊢
  generalize hu0 : S.2.2.1 = u0 at C ⊢
  rw [show lv_args 0 [va_rf p0] = [(0, va_rf p0)] from (lva_r rfl lva_0)]
  refine g_getsC C dJ9_coder_0 q342 ?_
  refine g_if_eq C 13 dJ9_coder_3 rfl hF (fun c hF => ?_) (fun c hF => ?_)
  · refine g_iconst (v := (1 : Int32)) C dJ9_coder_13 rfl ?_
    cases hF
    exact g_zret (ty := .byte) C (rfl) dJ9_coder_14 rfl rfl
  · refine g_aload_n C 0 dJ9_coder_6 rfl ?_
    refine g_getI C dJ9_coder_7 fd_10 (Or.inl q484) (Or.inl rfl) hF (fun x1 hF => ?_)
    refine g_goto C 14 dJ9_coder_10 rfl ?_
    obtain ⟨hz, hF⟩ := gIf hF
    cases hF
    exact g_zret (ty := .byte) C (nrB hz) dJ9_coder_14 rfl rfl
/-! java/lang/String.length()I -/
def fJ9_length (p0 : Option Nat) (S : gS) : Option Int32 :=
  (oGetR [30] 0 p0 S).bind fun x1 =>
  (oLen x1 S).bind fun x2 =>
  (gV [30] p0 S (fJ9_coder p0 S)).bind fun x3 =>
  some (x2 >>> (x3 &&& 31))
theorem mJ9_length {l : Launch} {D : gD} {K : gK} (hl : l.stackTraces = false) : ∀ (p0 : Option Nat) (S : gS) (r : Int32), fJ9_length p0 S = some r → gMet l D K yJ9_length (ws_ yJ9_length cJ9_length 1 (Option.some Jvm.ClassFile.FieldType.int)) 2 120 [va_rf p0] S (.inl (some (.int r))) S := by
  intro p0 S r hF
  unfold fJ9_length at hF
  refine gMet.of hl (by decide +kernel) rfl (gle (lgs_r lgs_0) (by decide)) (fun p e s m below meth c R hRf hRl C _ => ?_)
  generalize hargs : ([va_rf p0] : List Value).toArray = args at C ⊢
  generalize hu0 : S.2.2.1 = u0 at C ⊢
  rw [show lv_args 0 [va_rf p0] = [(0, va_rf p0)] from (lva_r rfl lva_0)]
  refine g_aload_n C 0 dJ9_length_0 rfl ?_
  refine g_getR C dJ9_length_1 fd_11 (Or.inl q483) (Or.inl rfl) hF (fun x1 hF => ?_)
  refine g_alen C dJ9_length_4 hF (fun x2 hF => ?_)
  refine g_aload_n C 0 dJ9_length_5 rfl ?_
  obtain ⟨x3, h, hF⟩ := oB hF
  obtain ⟨hi, h⟩ := gV_some h
  refine g_after (g_runV (n := 0) C dJ9_length_6 rfl hi (mJ9_coder C.2.2.2.2.2.2.2.2.2.2.2.1 p0 S _ h) (lw_V q338 q339 q340 q110 q341) (by decide +kernel) ⟨by rw [hRf]; exact Nat.le_of_ble_eq_true rfl, by rw [hRl]; exact Nat.le_of_ble_eq_true rfl⟩ rfl rfl (gle (gc_i gc_0) (by decide))) ?_
  refine g_ishr C dJ9_length_9 ?_
  cases hF
  exact g_iret C dJ9_length_10 rfl rfl
/-! java/lang/String.isLatin1()Z -/
def fJ9_isLatin1 (p0 : Option Nat) (S : gS) : Option Int32 :=
  (if (1 : Int32) = 0 then
  some (0 : Int32)
  else
  (oGetI [30] 1 p0 S).bind fun x1 =>
  (if x1 = 0 then
  some (1 : Int32)
  else
  some (0 : Int32)))
theorem mJ9_isLatin1 {l : Launch} {D : gD} {K : gK} (hl : l.stackTraces = false) : ∀ (p0 : Option Nat) (S : gS) (r : Int32), fJ9_isLatin1 p0 S = some r → gMet l D K yJ9_isLatin1 (ws_ yJ9_isLatin1 cJ9_isLatin1 1 (Option.some Jvm.ClassFile.FieldType.boolean)) 1 100 [va_rf p0] S (.inl (some (.int r))) S := by
  intro p0 S r hF
  unfold fJ9_isLatin1 at hF
  refine gMet.of hl (by decide +kernel) rfl (gle (lgs_r lgs_0) (by decide)) (fun p e s m below meth c R hRf hRl C _ => ?_)
  generalize hargs : ([va_rf p0] : List Value).toArray = args at C ⊢
  generalize hu0 : S.2.2.1 = u0 at C ⊢
  rw [show lv_args 0 [va_rf p0] = [(0, va_rf p0)] from (lva_r rfl lva_0)]
  refine g_getsC C dJ9_isLatin1_0 q342 ?_
  refine g_if_eq C 17 dJ9_isLatin1_3 rfl hF (fun c hF => ?_) (fun c hF => ?_)
  · refine g_iconst (v := (0 : Int32)) C dJ9_isLatin1_17 rfl ?_
    cases hF
    exact g_zret (ty := .boolean) C (rfl) dJ9_isLatin1_18 rfl rfl
  · refine g_aload_n C 0 dJ9_isLatin1_6 rfl ?_
    refine g_getI C dJ9_isLatin1_7 fd_10 (Or.inl q484) (Or.inl rfl) hF (fun x1 hF => ?_)
    refine g_if_ne C 17 dJ9_isLatin1_10 rfl hF (fun c hF => ?_) (fun c hF => ?_)
    · refine g_iconst (v := (0 : Int32)) C dJ9_isLatin1_17 rfl ?_
      cases hF
      exact g_zret (ty := .boolean) C (rfl) dJ9_isLatin1_18 rfl rfl
    · refine g_iconst (v := (1 : Int32)) C dJ9_isLatin1_13 rfl ?_
      refine g_goto C 18 dJ9_isLatin1_14 rfl ?_
      cases hF
      exact g_zret (ty := .boolean) C (rfl) dJ9_isLatin1_18 rfl rfl
/-! java/lang/String.hashCode()I -/
def fJ9_hashCode (p0 : Option Nat) (S : gS) : Option (Int32 × gS) :=
  (oGetI [30] 2 p0 S).bind fun x1 =>
  (if x1 = 0 then
  (oGetI [30] 3 p0 S).bind fun x2 =>
  (if x2 = 0 then
  (gV [30] p0 S (fJ9_isLatin1 p0 S)).bind fun x3 =>
  (if x3 = 0 then
  none
  else
  (oGetR [30] 0 p0 S).bind fun x4 =>
  (fJ15_hashCode x4 S).bind fun x5 =>
  (if x5 = 0 then
  (oPutZ [30] 3 p0 (1 : Int32) S).bind fun S7 =>
  some (x5, S7)
  else
  (oPut [30] 2 p0 (.int x5) S).bind fun S6 =>
  some (x5, S6)))
  else
  some (x1, S))
  else
  some (x1, S))
theorem mJ9_hashCode {l : Launch} {D : gD} {K : gK} (hl : l.stackTraces = false) : ∀ (p0 : Option Nat) (S : gS) (r : Int32) (S1 : gS), fJ9_hashCode p0 S = some (r, S1) → gMet l D K yJ9_hashCode (ws_ yJ9_hashCode cJ9_hashCode 2 (Option.some Jvm.ClassFile.FieldType.int)) 4 169 [va_rf p0] S (.inl (some (.int r))) S1 := by
  intro p0 S r S1 hF
  unfold fJ9_hashCode at hF
  refine gMet.of hl (by decide +kernel) rfl (gle (lgs_r lgs_0) (by decide)) (fun p e s m below meth c R hRf hRl C _ => ?_)
  generalize hargs : ([va_rf p0] : List Value).toArray = args at C ⊢
  generalize hu0 : S.2.2.1 = u0 at C ⊢
  rw [show lv_args 0 [va_rf p0] = [(0, va_rf p0)] from (lva_r rfl lva_0)]
  refine g_aload_n C 0 dJ9_hashCode_0 rfl ?_
  refine g_getI C dJ9_hashCode_1 fd_12 (Or.inl q485) (Or.inl rfl) hF (fun x1 hF => ?_)
  refine g_istore_n C dJ9_hashCode_4 (by decide) (gcons rfl (gfr rfl gf0)) ?_
  refine g_iload_n C 0 dJ9_hashCode_5 rfl ?_
  refine g_if_ne C 58 dJ9_hashCode_6 rfl hF (fun c hF => ?_) (fun c hF => ?_)
  · refine g_iload_n C 0 dJ9_hashCode_58 rfl ?_
    cases hF
    exact g_iret C dJ9_hashCode_59 rfl rfl
  · refine g_aload_n C 1 dJ9_hashCode_9 rfl ?_
    refine g_getI C dJ9_hashCode_10 fd_13 (Or.inl q486) (Or.inl rfl) hF (fun x2 hF => ?_)
    refine g_if_ne C 58 dJ9_hashCode_13 rfl hF (fun c hF => ?_) (fun c hF => ?_)
    · refine g_iload_n C 0 dJ9_hashCode_58 rfl ?_
      cases hF
      exact g_iret C dJ9_hashCode_59 rfl rfl
    · refine g_aload_n C 1 dJ9_hashCode_16 rfl ?_
      obtain ⟨x3, h, hF⟩ := oB hF
      obtain ⟨hi, h⟩ := gV_some h
      refine g_after (g_runV (n := 0) C dJ9_hashCode_17 rfl hi (mJ9_isLatin1 C.2.2.2.2.2.2.2.2.2.2.2.1 p0 S _ h) (lw_V q1037 q1038 q1039 q110 q1040) (by decide +kernel) ⟨by rw [hRf]; exact Nat.le_of_ble_eq_true rfl, by rw [hRl]; exact Nat.le_of_ble_eq_true rfl⟩ rfl rfl (gle gc_0 (by decide))) ?_
      refine g_if_eq C 33 dJ9_hashCode_20 rfl hF (fun c hF => ?_) (fun c hF => ?_)
      · cases hF
      · refine g_aload_n C 1 dJ9_hashCode_23 rfl ?_
        refine g_getR C dJ9_hashCode_24 fd_11 (Or.inl q483) (Or.inl rfl) hF (fun x4 hF => ?_)
        obtain ⟨x5, h, hF⟩ := oB hF
        refine g_after (g_runS (n := 1) C dJ9_hashCode_27 (mJ15_hashCode C.2.2.2.2.2.2.2.2.2.2.2.1 x4 S _ h) (lw_S q1041 q1042 q117 q1043) (by decide +kernel) ⟨by rw [hRf]; exact Nat.le_of_ble_eq_true rfl, by rw [hRl]; exact Nat.le_of_ble_eq_true rfl⟩ rfl rfl (gle gc_0 (by decide))) ?_
        refine g_goto C 40 dJ9_hashCode_30 rfl ?_
        refine g_istore_n C dJ9_hashCode_40 (by decide) (gcons rfl (gfd rfl (gfr rfl gf0))) ?_
        refine g_iload_n C 0 dJ9_hashCode_41 rfl ?_
        refine g_if_ne C 53 dJ9_hashCode_42 rfl hF (fun c hF => ?_) (fun c hF => ?_)
        · refine g_aload_n C 1 dJ9_hashCode_53 rfl ?_
          refine g_iload_n C 0 dJ9_hashCode_54 rfl ?_
          refine g_put C dJ9_hashCode_55 fd_12 (Or.inl q485) (Or.inl rfl) pf_0 rfl rfl hF (fun S6 hF => ?_)
          refine g_iload_n C 0 dJ9_hashCode_58 rfl ?_
          cases hF
          exact g_iret C dJ9_hashCode_59 rfl rfl
        · refine g_aload_n C 1 dJ9_hashCode_45 rfl ?_
          refine g_iconst (v := (1 : Int32)) C dJ9_hashCode_46 rfl ?_
          refine g_putZ C dJ9_hashCode_47 fd_13 (Or.inl q486) (Or.inl rfl) pf_8 hF (fun S7 hF => ?_)
          refine g_goto C 58 dJ9_hashCode_50 rfl ?_
          refine g_iload_n C 0 dJ9_hashCode_58 rfl ?_
          cases hF
          exact g_iret C dJ9_hashCode_59 rfl rfl
/-! java/lang/String.equals(Ljava/lang/Object;)Z -/
def fJ9_equals_j36 (a0 : Option Nat) (a2 : Option Nat) (S : gS) : Option Int32 :=
  (oGetR [30] 0 a0 S).bind fun x1 =>
  (oGetR [30] 0 a2 S).bind fun x2 =>
  (fJ15_equals x1 x2 S).bind fun x3 =>
  (if x3 = 0 then
  some (0 : Int32)
  else
  some (1 : Int32))
def fJ9_equals (p0 : Option Nat) (p1 : Option Nat) (S : gS) : Option Int32 :=
  (if p0 = p1 then
  some (1 : Int32)
  else
  (if oIs [30] p1 S = true then
  (if (1 : Int32) = 0 then
  some (0 : Int32)
  else
  (if oIs [30] p1 S = true then
  (if (1 : Int32) = 0 then
  fJ9_equals_j36 p0 p1 S
  else
  (oGetI [30] 1 p0 S).bind fun x1 =>
  (oGetI [30] 1 p1 S).bind fun x2 =>
  (if x1 = x2 then
  fJ9_equals_j36 p0 p1 S
  else
  some (0 : Int32)))
  else none))
  else none))
theorem wfJ9_equals_j36 {r : Int32} (C : gCx p l R s m args meth c D K RJ9 cJ9_equals 3 (Option.some Jvm.ClassFile.FieldType.boolean) [] "equals" u0) (hRf : R.frames = 2) (hRl : R.locals = 122) : ∀ (a0 : Option Nat) (a2 : Option Nat) (S : gS), fJ9_equals_j36 a0 a2 S = some r → gW p l e R s m args below meth c D K 3 u0 (gEnd below args s D K u0 (.inl (some (.int r))) S) S 36 [(0, va_rf a0), (2, va_rf a2)] [] := by
  intro a0 a2 S hF
  unfold fJ9_equals_j36 at hF
  refine g_aload_n C 0 dJ9_equals_36 rfl ?_
  refine g_getR C dJ9_equals_37 fd_11 (Or.inl q483) (Or.inl rfl) hF (fun x1 hF => ?_)
  refine g_aload_n C 1 dJ9_equals_40 rfl ?_
  refine g_getR C dJ9_equals_41 fd_11 (Or.inl q483) (Or.inl rfl) hF (fun x2 hF => ?_)
  obtain ⟨x3, h, hF⟩ := oB hF
  refine g_after (g_runS (n := 2) C dJ9_equals_44 (mJ15_equals C.2.2.2.2.2.2.2.2.2.2.2.1 x1 x2 S _ h) (lw_S q1100 q1101 q117 q1102) (by decide +kernel) ⟨by rw [hRf]; exact Nat.le_of_ble_eq_true rfl, by rw [hRl]; exact Nat.le_of_ble_eq_true rfl⟩ rfl rfl (gle gc_0 (by decide))) ?_
  refine g_if_eq C 54 dJ9_equals_47 rfl hF (fun c hF => ?_) (fun c hF => ?_)
  · refine g_iconst (v := (0 : Int32)) C dJ9_equals_54 rfl ?_
    cases hF
    exact g_zret (ty := .boolean) C (rfl) dJ9_equals_55 rfl rfl
  · refine g_iconst (v := (1 : Int32)) C dJ9_equals_50 rfl ?_
    refine g_goto C 55 dJ9_equals_51 rfl ?_
    cases hF
    exact g_zret (ty := .boolean) C (rfl) dJ9_equals_55 rfl rfl
theorem mJ9_equals {l : Launch} {D : gD} {K : gK} (hl : l.stackTraces = false) : ∀ (p0 : Option Nat) (p1 : Option Nat) (S : gS) (r : Int32), fJ9_equals p0 p1 S = some r → gMet l D K yJ9_equals (ws_ yJ9_equals cJ9_equals 3 (Option.some Jvm.ClassFile.FieldType.boolean)) 2 122 [va_rf p0, va_rf p1] S (.inl (some (.int r))) S := by
  intro p0 p1 S r hF
  unfold fJ9_equals at hF
  refine gMet.of hl (by decide +kernel) rfl (gle (lgs_r (lgs_r lgs_0)) (by decide)) (fun p e s m below meth c R hRf hRl C _ => ?_)
  generalize hargs : ([va_rf p0, va_rf p1] : List Value).toArray = args at C ⊢
  generalize hu0 : S.2.2.1 = u0 at C ⊢
  rw [show lv_args 0 [va_rf p0, va_rf p1] = [(0, va_rf p0), (1, va_rf p1)] from (lva_r rfl (lva_r rfl lva_0))]
  refine g_aload_n C 0 dJ9_equals_0 rfl ?_
  refine g_aload_n C 1 dJ9_equals_1 rfl ?_
  refine g_acmp_ne C 7 dJ9_equals_2 rfl hF (fun c hF => ?_) (fun c hF => ?_)
  · refine g_aload_n C 1 dJ9_equals_7 rfl ?_
    obtain ⟨hi, hF⟩ := gIf hF
    refine g_inst C dJ9_equals_8 q1099 inst_java_lang_String hi ?_
    refine g_if_eq C 54 dJ9_equals_11 rfl hF (fun c hF => ?_) (fun c hF => ?_)
    · refine g_iconst (v := (0 : Int32)) C dJ9_equals_54 rfl ?_
      cases hF
      exact g_zret (ty := .boolean) C (rfl) dJ9_equals_55 rfl rfl
    · refine g_aload_n C 1 dJ9_equals_14 rfl ?_
      obtain ⟨hi, hF⟩ := gIf hF
      refine g_cast C dJ9_equals_15 q1099 cast_java_lang_String hi ?_
      refine g_astore_n C dJ9_equals_18 (by decide) (gcons rfl (gfk rfl rfl (gfr rfl gf0))) ?_
      refine g_getsC C dJ9_equals_19 q342 ?_
      refine g_if_eq C 36 dJ9_equals_22 rfl hF (fun c hF => ?_) (fun c hF => ?_)
      · exact g_sub [1, 0] rfl (wfJ9_equals_j36 C hRf hRl p0 p1 S hF)
      · refine g_aload_n C 1 dJ9_equals_25 rfl ?_
        refine g_getI C dJ9_equals_26 fd_10 (Or.inl q484) (Or.inl rfl) hF (fun x1 hF => ?_)
        refine g_aload_n C 0 dJ9_equals_29 rfl ?_
        refine g_getI C dJ9_equals_30 fd_10 (Or.inl q484) (Or.inl rfl) hF (fun x2 hF => ?_)
        refine g_icmp_ne C 54 dJ9_equals_33 rfl hF (fun c hF => ?_) (fun c hF => ?_)
        · refine g_iconst (v := (0 : Int32)) C dJ9_equals_54 rfl ?_
          cases hF
          exact g_zret (ty := .boolean) C (rfl) dJ9_equals_55 rfl rfl
        · exact g_sub [1, 0] rfl (wfJ9_equals_j36 C hRf hRl p0 p1 S hF)
  · refine g_iconst (v := (1 : Int32)) C dJ9_equals_5 rfl ?_
    cases hF
    exact g_zret (ty := .boolean) C (rfl) dJ9_equals_6 rfl rfl
end s16_jdk
