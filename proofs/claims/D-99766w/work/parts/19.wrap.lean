set_option maxRecDepth 100000
set_option maxHeartbeats 2000000
section s19_wrap
variable {p : Program} {l : Launch} {e : Env} {R : Room} {s : State} {m : MethodId} {args : Array Value} {below : List Frame} {meth : Method} {c : Code} {D : gD} {K : gK} {u0 : Nat}
/-! VowelChoirLaw.choir(LVowelChoir;I[J)I -/
def fX0_choir (p0 : Option Nat) (p1 : Int32) (p2 : Option Nat) (S : gS) : Option (Int32 × gS) :=
  gC (gV [0] p0 S (fX1_choir p0 p1 S)) (fun x1 S2 =>
  (oStL p2 (0 : Int32) x1.toInt64 S2).bind fun S3 =>
  some ((0 : Int32), S3)) (fun cx q4 S2 => if cx = 31 then
  some ((1 : Int32), S2)
  else none)
theorem mX0_choir {l : Launch} {D : gD} {K : gK} (hl : l.stackTraces = false) : ∀ (p0 : Option Nat) (p1 : Int32) (p2 : Option Nat) (S : gS) (r : Int32) (S1 : gS), fX0_choir p0 p1 p2 S = some (r, S1) → gMet l D K yX0_choir (wsW_ yX0_choir cX0_choir 4 (Option.some Jvm.ClassFile.FieldType.int) [(0, 9, 12, 13)]) 11 400 [va_rf p0, .int p1, va_rf p2] S (.inl (some (.int r))) S1 := by
  intro p0 p1 p2 S r S1 hF
  unfold fX0_choir at hF
  refine gMet.ofH hl (by decide +kernel) rfl (gle (lgs_r (lgs_i (lgs_r lgs_0))) (by decide)) (fun p e s m below meth c R hRf hRl C _ => ?_)
  generalize hargs : ([va_rf p0, .int p1, va_rf p2] : List Value).toArray = args at C ⊢
  generalize hu0 : S.2.2.1 = u0 at C ⊢
  rw [show lv_args 0 [va_rf p0, .int p1, va_rf p2] = [(0, va_rf p0), (1, .int p1), (2, va_rf p2)] from (lva_r rfl (lva_i rfl (lva_r rfl lva_0)))]
  refine g_aload_n C 2 dX0_choir_0 rfl ?_
  refine g_iconst (v := (0 : Int32)) C dX0_choir_1 rfl ?_
  refine g_aload_n C 0 dX0_choir_2 rfl ?_
  refine g_iload_n C 1 dX0_choir_3 rfl ?_
  rcases gC_cases hF with ⟨x1, S2, h, hF⟩ | ⟨xx, S2, h, hF⟩
  · obtain ⟨hi, h⟩ := gV_some h
    refine g_after (g_runVX (n := 1) C dX0_choir_4 rfl hi (mX1_choir C.2.2.2.2.2.2.2.2.2.2.2.1 p0 p1 S _ _ h) (lw_VW q916 q917 q918 q99 q919) (by decide +kernel) ⟨by rw [hRf]; exact Nat.le_of_ble_eq_true rfl, by rw [hRl]; exact Nat.le_of_ble_eq_true rfl⟩ rfl rfl (gle (gc_i (gc_r gc_0)) (by decide))) ?_
    refine g_i2l C dX0_choir_7 ?_
    refine g_last C dX0_choir_8 hF (fun S3 hF => ?_)
    refine g_goto C 15 dX0_choir_9 rfl ?_
    refine g_iconst (v := (0 : Int32)) C dX0_choir_15 rfl ?_
    cases hF
    exact g_iret C dX0_choir_16 rfl rfl
  · obtain ⟨cx, q4⟩ := xx
    refine g_caseN hF (fun e hF => ?_) (fun e hF => ?_)
    · subst e
      obtain ⟨hi, h⟩ := gV_some h
      refine g_afterT (g_runVX (n := 1) C dX0_choir_4 rfl hi (mX1_choir C.2.2.2.2.2.2.2.2.2.2.2.1 p0 p1 S _ _ h) (lw_VW q916 q917 q918 q99 q919) (by decide +kernel) ⟨by rw [hRf]; exact Nat.le_of_ble_eq_true rfl, by rw [hRl]; exact Nat.le_of_ble_eq_true rfl⟩ rfl rfl (gle (gc_i (gc_r gc_0)) (by decide))) ?_
      refine g_catch C 0 rfl rfl rfl (by decide) rfl q915 q185 ?_
      refine g_astore_n C dX0_choir_12 (by decide) (gcons rfl (gfk rfl rfl (gfk rfl rfl (gfr rfl gf0)))) ?_
      refine g_iconst (v := (1 : Int32)) C dX0_choir_13 rfl ?_
      cases hF
      exact g_iret C dX0_choir_14 rfl rfl
    cases hF
/-! VowelChoirLaw.law(LVowelChoir;I[J)I -/
def fX0_law (p0 : Option Nat) (p1 : Int32) (p2 : Option Nat) (S : gS) : Option (Int32 × gS) :=
  gC (gV [0] p0 S (fX1_law p0 p1 S)) (fun x1 S2 =>
  (oStL p2 (0 : Int32) x1.toInt64 S2).bind fun S3 =>
  some ((0 : Int32), S3)) (fun cx q4 S2 => if cx = 31 then
  some ((1 : Int32), S2)
  else none)
theorem mX0_law {l : Launch} {D : gD} {K : gK} (hl : l.stackTraces = false) : ∀ (p0 : Option Nat) (p1 : Int32) (p2 : Option Nat) (S : gS) (r : Int32) (S1 : gS), fX0_law p0 p1 p2 S = some (r, S1) → gMet l D K yX0_law (wsW_ yX0_law cX0_law 4 (Option.some Jvm.ClassFile.FieldType.int) [(0, 9, 12, 13)]) 403 15268 [va_rf p0, .int p1, va_rf p2] S (.inl (some (.int r))) S1 := by
  intro p0 p1 p2 S r S1 hF
  unfold fX0_law at hF
  refine gMet.ofH hl (by decide +kernel) rfl (gle (lgs_r (lgs_i (lgs_r lgs_0))) (by decide)) (fun p e s m below meth c R hRf hRl C _ => ?_)
  generalize hargs : ([va_rf p0, .int p1, va_rf p2] : List Value).toArray = args at C ⊢
  generalize hu0 : S.2.2.1 = u0 at C ⊢
  rw [show lv_args 0 [va_rf p0, .int p1, va_rf p2] = [(0, va_rf p0), (1, .int p1), (2, va_rf p2)] from (lva_r rfl (lva_i rfl (lva_r rfl lva_0)))]
  refine g_aload_n C 2 dX0_law_0 rfl ?_
  refine g_iconst (v := (0 : Int32)) C dX0_law_1 rfl ?_
  refine g_aload_n C 0 dX0_law_2 rfl ?_
  refine g_iload_n C 1 dX0_law_3 rfl ?_
  rcases gC_cases hF with ⟨x1, S2, h, hF⟩ | ⟨xx, S2, h, hF⟩
  · obtain ⟨hi, h⟩ := gV_some h
    refine g_after (g_runVX (n := 1) C dX0_law_4 rfl hi (mX1_law C.2.2.2.2.2.2.2.2.2.2.2.1 p0 p1 S _ _ h) (lw_VW q1290 q1291 q1292 q99 q1293) (by decide +kernel) ⟨by rw [hRf]; exact Nat.le_of_ble_eq_true rfl, by rw [hRl]; exact Nat.le_of_ble_eq_true rfl⟩ rfl rfl (gle (gc_i (gc_r gc_0)) (by decide))) ?_
    refine g_i2l C dX0_law_7 ?_
    refine g_last C dX0_law_8 hF (fun S3 hF => ?_)
    refine g_goto C 15 dX0_law_9 rfl ?_
    refine g_iconst (v := (0 : Int32)) C dX0_law_15 rfl ?_
    cases hF
    exact g_iret C dX0_law_16 rfl rfl
  · obtain ⟨cx, q4⟩ := xx
    refine g_caseN hF (fun e hF => ?_) (fun e hF => ?_)
    · subst e
      obtain ⟨hi, h⟩ := gV_some h
      refine g_afterT (g_runVX (n := 1) C dX0_law_4 rfl hi (mX1_law C.2.2.2.2.2.2.2.2.2.2.2.1 p0 p1 S _ _ h) (lw_VW q1290 q1291 q1292 q99 q1293) (by decide +kernel) ⟨by rw [hRf]; exact Nat.le_of_ble_eq_true rfl, by rw [hRl]; exact Nat.le_of_ble_eq_true rfl⟩ rfl rfl (gle (gc_i (gc_r gc_0)) (by decide))) ?_
      refine g_catch C 0 rfl rfl rfl (by decide) rfl q915 q185 ?_
      refine g_astore_n C dX0_law_12 (by decide) (gcons rfl (gfk rfl rfl (gfk rfl rfl (gfr rfl gf0)))) ?_
      refine g_iconst (v := (1 : Int32)) C dX0_law_13 rfl ?_
      cases hF
      exact g_iret C dX0_law_14 rfl rfl
    cases hF
/-! VowelChoirLaw.work(LVowelChoir;I[J)I -/
def fX0_work (p0 : Option Nat) (p1 : Int32) (p2 : Option Nat) (S : gS) : Option (Int32 × gS) :=
  gC (gV [0] p0 S (fX1_work p0 p1 S)) (fun x1 S2 =>
  (oStL p2 (0 : Int32) x1.toInt64 S2).bind fun S3 =>
  some ((0 : Int32), S3)) (fun cx q4 S2 => if cx = 31 then
  some ((1 : Int32), S2)
  else none)
theorem mX0_work {l : Launch} {D : gD} {K : gK} (hl : l.stackTraces = false) : ∀ (p0 : Option Nat) (p1 : Int32) (p2 : Option Nat) (S : gS) (r : Int32) (S1 : gS), fX0_work p0 p1 p2 S = some (r, S1) → gMet l D K yX0_work (wsW_ yX0_work cX0_work 4 (Option.some Jvm.ClassFile.FieldType.int) [(0, 9, 12, 13)]) 711 32666 [va_rf p0, .int p1, va_rf p2] S (.inl (some (.int r))) S1 := by
  intro p0 p1 p2 S r S1 hF
  unfold fX0_work at hF
  refine gMet.ofH hl (by decide +kernel) rfl (gle (lgs_r (lgs_i (lgs_r lgs_0))) (by decide)) (fun p e s m below meth c R hRf hRl C _ => ?_)
  generalize hargs : ([va_rf p0, .int p1, va_rf p2] : List Value).toArray = args at C ⊢
  generalize hu0 : S.2.2.1 = u0 at C ⊢
  rw [show lv_args 0 [va_rf p0, .int p1, va_rf p2] = [(0, va_rf p0), (1, .int p1), (2, va_rf p2)] from (lva_r rfl (lva_i rfl (lva_r rfl lva_0)))]
  refine g_aload_n C 2 dX0_work_0 rfl ?_
  refine g_iconst (v := (0 : Int32)) C dX0_work_1 rfl ?_
  refine g_aload_n C 0 dX0_work_2 rfl ?_
  refine g_iload_n C 1 dX0_work_3 rfl ?_
  rcases gC_cases hF with ⟨x1, S2, h, hF⟩ | ⟨xx, S2, h, hF⟩
  · obtain ⟨hi, h⟩ := gV_some h
    refine g_after (g_runVX (n := 1) C dX0_work_4 rfl hi (mX1_work C.2.2.2.2.2.2.2.2.2.2.2.1 p0 p1 S _ _ h) (lw_VW q1449 q1450 q1451 q99 q1452) (by decide +kernel) ⟨by rw [hRf]; exact Nat.le_of_ble_eq_true rfl, by rw [hRl]; exact Nat.le_of_ble_eq_true rfl⟩ rfl rfl (gle (gc_i (gc_r gc_0)) (by decide))) ?_
    refine g_i2l C dX0_work_7 ?_
    refine g_last C dX0_work_8 hF (fun S3 hF => ?_)
    refine g_goto C 15 dX0_work_9 rfl ?_
    refine g_iconst (v := (0 : Int32)) C dX0_work_15 rfl ?_
    cases hF
    exact g_iret C dX0_work_16 rfl rfl
  · obtain ⟨cx, q4⟩ := xx
    refine g_caseN hF (fun e hF => ?_) (fun e hF => ?_)
    · subst e
      obtain ⟨hi, h⟩ := gV_some h
      refine g_afterT (g_runVX (n := 1) C dX0_work_4 rfl hi (mX1_work C.2.2.2.2.2.2.2.2.2.2.2.1 p0 p1 S _ _ h) (lw_VW q1449 q1450 q1451 q99 q1452) (by decide +kernel) ⟨by rw [hRf]; exact Nat.le_of_ble_eq_true rfl, by rw [hRl]; exact Nat.le_of_ble_eq_true rfl⟩ rfl rfl (gle (gc_i (gc_r gc_0)) (by decide))) ?_
      refine g_catch C 0 rfl rfl rfl (by decide) rfl q915 q185 ?_
      refine g_astore_n C dX0_work_12 (by decide) (gcons rfl (gfk rfl rfl (gfk rfl rfl (gfr rfl gf0)))) ?_
      refine g_iconst (v := (1 : Int32)) C dX0_work_13 rfl ?_
      cases hF
      exact g_iret C dX0_work_14 rfl rfl
    cases hF
/-! VowelChoirLaw.book(LVowelChoir;I[J)I -/
def fX0_book (p0 : Option Nat) (p1 : Int32) (p2 : Option Nat) (S : gS) : Option (Int32 × gS) :=
  gC (gV [0] p0 S (fX1_book p0 p1 S)) (fun x1 S2 =>
  (oStL p2 (0 : Int32) x1.toInt64 S2).bind fun S3 =>
  some ((0 : Int32), S3)) (fun cx q4 S2 => if cx = 31 then
  some ((1 : Int32), S2)
  else none)
theorem mX0_book {l : Launch} {D : gD} {K : gK} (hl : l.stackTraces = false) : ∀ (p0 : Option Nat) (p1 : Int32) (p2 : Option Nat) (S : gS) (r : Int32) (S1 : gS), fX0_book p0 p1 p2 S = some (r, S1) → gMet l D K yX0_book (wsW_ yX0_book cX0_book 4 (Option.some Jvm.ClassFile.FieldType.int) [(0, 9, 12, 13)]) 9 259 [va_rf p0, .int p1, va_rf p2] S (.inl (some (.int r))) S1 := by
  intro p0 p1 p2 S r S1 hF
  unfold fX0_book at hF
  refine gMet.ofH hl (by decide +kernel) rfl (gle (lgs_r (lgs_i (lgs_r lgs_0))) (by decide)) (fun p e s m below meth c R hRf hRl C _ => ?_)
  generalize hargs : ([va_rf p0, .int p1, va_rf p2] : List Value).toArray = args at C ⊢
  generalize hu0 : S.2.2.1 = u0 at C ⊢
  rw [show lv_args 0 [va_rf p0, .int p1, va_rf p2] = [(0, va_rf p0), (1, .int p1), (2, va_rf p2)] from (lva_r rfl (lva_i rfl (lva_r rfl lva_0)))]
  refine g_aload_n C 2 dX0_book_0 rfl ?_
  refine g_iconst (v := (0 : Int32)) C dX0_book_1 rfl ?_
  refine g_aload_n C 0 dX0_book_2 rfl ?_
  refine g_iload_n C 1 dX0_book_3 rfl ?_
  rcases gC_cases hF with ⟨x1, S2, h, hF⟩ | ⟨xx, S2, h, hF⟩
  · obtain ⟨hi, h⟩ := gV_some h
    refine g_after (g_runVX (n := 1) C dX0_book_4 rfl hi (mX1_book C.2.2.2.2.2.2.2.2.2.2.2.1 p0 p1 S _ _ h) (lw_VW q1673 q1674 q1675 q99 q1676) (by decide +kernel) ⟨by rw [hRf]; exact Nat.le_of_ble_eq_true rfl, by rw [hRl]; exact Nat.le_of_ble_eq_true rfl⟩ rfl rfl (gle (gc_i (gc_r gc_0)) (by decide))) ?_
    refine g_i2l C dX0_book_7 ?_
    refine g_last C dX0_book_8 hF (fun S3 hF => ?_)
    refine g_goto C 15 dX0_book_9 rfl ?_
    refine g_iconst (v := (0 : Int32)) C dX0_book_15 rfl ?_
    cases hF
    exact g_iret C dX0_book_16 rfl rfl
  · obtain ⟨cx, q4⟩ := xx
    refine g_caseN hF (fun e hF => ?_) (fun e hF => ?_)
    · subst e
      obtain ⟨hi, h⟩ := gV_some h
      refine g_afterT (g_runVX (n := 1) C dX0_book_4 rfl hi (mX1_book C.2.2.2.2.2.2.2.2.2.2.2.1 p0 p1 S _ _ h) (lw_VW q1673 q1674 q1675 q99 q1676) (by decide +kernel) ⟨by rw [hRf]; exact Nat.le_of_ble_eq_true rfl, by rw [hRl]; exact Nat.le_of_ble_eq_true rfl⟩ rfl rfl (gle (gc_i (gc_r gc_0)) (by decide))) ?_
      refine g_catch C 0 rfl rfl rfl (by decide) rfl q915 q185 ?_
      refine g_astore_n C dX0_book_12 (by decide) (gcons rfl (gfk rfl rfl (gfk rfl rfl (gfr rfl gf0)))) ?_
      refine g_iconst (v := (1 : Int32)) C dX0_book_13 rfl ?_
      cases hF
      exact g_iret C dX0_book_14 rfl rfl
    cases hF
/-! VowelChoirLaw.told(LVowelChoir;I[J)I -/
def fX0_told (p0 : Option Nat) (p1 : Int32) (p2 : Option Nat) (S : gS) : Option (Int32 × gS) :=
  gC (gV [0] p0 S (fX1_told p0 p1 S)) (fun x1 S2 =>
  (oStL p2 (0 : Int32) x1.toInt64 S2).bind fun S3 =>
  some ((0 : Int32), S3)) (fun cx q4 S2 => if cx = 31 then
  some ((1 : Int32), S2)
  else none)
theorem mX0_told {l : Launch} {D : gD} {K : gK} (hl : l.stackTraces = false) : ∀ (p0 : Option Nat) (p1 : Int32) (p2 : Option Nat) (S : gS) (r : Int32) (S1 : gS), fX0_told p0 p1 p2 S = some (r, S1) → gMet l D K yX0_told (wsW_ yX0_told cX0_told 4 (Option.some Jvm.ClassFile.FieldType.int) [(0, 9, 12, 13)]) 9 228 [va_rf p0, .int p1, va_rf p2] S (.inl (some (.int r))) S1 := by
  intro p0 p1 p2 S r S1 hF
  unfold fX0_told at hF
  refine gMet.ofH hl (by decide +kernel) rfl (gle (lgs_r (lgs_i (lgs_r lgs_0))) (by decide)) (fun p e s m below meth c R hRf hRl C _ => ?_)
  generalize hargs : ([va_rf p0, .int p1, va_rf p2] : List Value).toArray = args at C ⊢
  generalize hu0 : S.2.2.1 = u0 at C ⊢
  rw [show lv_args 0 [va_rf p0, .int p1, va_rf p2] = [(0, va_rf p0), (1, .int p1), (2, va_rf p2)] from (lva_r rfl (lva_i rfl (lva_r rfl lva_0)))]
  refine g_aload_n C 2 dX0_told_0 rfl ?_
  refine g_iconst (v := (0 : Int32)) C dX0_told_1 rfl ?_
  refine g_aload_n C 0 dX0_told_2 rfl ?_
  refine g_iload_n C 1 dX0_told_3 rfl ?_
  rcases gC_cases hF with ⟨x1, S2, h, hF⟩ | ⟨xx, S2, h, hF⟩
  · obtain ⟨hi, h⟩ := gV_some h
    refine g_after (g_runV (n := 1) C dX0_told_4 rfl hi (mX1_told C.2.2.2.2.2.2.2.2.2.2.2.1 p0 p1 S _ _ h) (lw_V q1718 q1719 q1720 q99 q1721) (by decide +kernel) ⟨by rw [hRf]; exact Nat.le_of_ble_eq_true rfl, by rw [hRl]; exact Nat.le_of_ble_eq_true rfl⟩ rfl rfl (gle (gc_i (gc_r gc_0)) (by decide))) ?_
    refine g_i2l C dX0_told_7 ?_
    refine g_last C dX0_told_8 hF (fun S3 hF => ?_)
    refine g_goto C 15 dX0_told_9 rfl ?_
    refine g_iconst (v := (0 : Int32)) C dX0_told_15 rfl ?_
    cases hF
    exact g_iret C dX0_told_16 rfl rfl
  · obtain ⟨cx, q4⟩ := xx
    refine g_caseN hF (fun e hF => ?_) (fun e hF => ?_)
    · subst e
      obtain ⟨hi, h⟩ := gV_some h
      refine g_afterT (g_runV (n := 1) C dX0_told_4 rfl hi (mX1_told C.2.2.2.2.2.2.2.2.2.2.2.1 p0 p1 S _ _ h) (lw_V q1718 q1719 q1720 q99 q1721) (by decide +kernel) ⟨by rw [hRf]; exact Nat.le_of_ble_eq_true rfl, by rw [hRl]; exact Nat.le_of_ble_eq_true rfl⟩ rfl rfl (gle (gc_i (gc_r gc_0)) (by decide))) ?_
      refine g_catch C 0 rfl rfl rfl (by decide) rfl q915 q185 ?_
      refine g_astore_n C dX0_told_12 (by decide) (gcons rfl (gfk rfl rfl (gfk rfl rfl (gfr rfl gf0)))) ?_
      refine g_iconst (v := (1 : Int32)) C dX0_told_13 rfl ?_
      cases hF
      exact g_iret C dX0_told_14 rfl rfl
    cases hF
/-! VowelChoirLaw.singer(LVowelChoir;II[J)I -/
def fX0_singer (p0 : Option Nat) (p1 : Int32) (p2 : Int32) (p3 : Option Nat) (S : gS) : Option (Int32 × gS) :=
  gC (gV [0] p0 S (fX1_singer p0 p1 p2 S)) (fun x1 S2 =>
  (oStL p3 (0 : Int32) x1.toInt64 S2).bind fun S3 =>
  some ((0 : Int32), S3)) (fun cx q4 S2 => if cx = 32 then
  some ((1 : Int32), S2)
  else if cx = 31 then
  some ((2 : Int32), S2)
  else none)
theorem mX0_singer {l : Launch} {D : gD} {K : gK} (hl : l.stackTraces = false) : ∀ (p0 : Option Nat) (p1 : Int32) (p2 : Int32) (p3 : Option Nat) (S : gS) (r : Int32) (S1 : gS), fX0_singer p0 p1 p2 p3 S = some (r, S1) → gMet l D K yX0_singer (wsW_ yX0_singer cX0_singer 5 (Option.some Jvm.ClassFile.FieldType.int) [(0, 10, 13, 31), (0, 10, 17, 13)]) 10 207 [va_rf p0, .int p1, .int p2, va_rf p3] S (.inl (some (.int r))) S1 := by
  intro p0 p1 p2 p3 S r S1 hF
  unfold fX0_singer at hF
  refine gMet.ofH hl (by decide +kernel) rfl (gle (lgs_r (lgs_i (lgs_i (lgs_r lgs_0)))) (by decide)) (fun p e s m below meth c R hRf hRl C _ => ?_)
  generalize hargs : ([va_rf p0, .int p1, .int p2, va_rf p3] : List Value).toArray = args at C ⊢
  generalize hu0 : S.2.2.1 = u0 at C ⊢
  rw [show lv_args 0 [va_rf p0, .int p1, .int p2, va_rf p3] = [(0, va_rf p0), (1, .int p1), (2, .int p2), (3, va_rf p3)] from (lva_r rfl (lva_i rfl (lva_i rfl (lva_r rfl lva_0))))]
  refine g_aload_n C 3 dX0_singer_0 rfl ?_
  refine g_iconst (v := (0 : Int32)) C dX0_singer_1 rfl ?_
  refine g_aload_n C 0 dX0_singer_2 rfl ?_
  refine g_iload_n C 1 dX0_singer_3 rfl ?_
  refine g_iload_n C 2 dX0_singer_4 rfl ?_
  rcases gC_cases hF with ⟨x1, S2, h, hF⟩ | ⟨xx, S2, h, hF⟩
  · obtain ⟨hi, h⟩ := gV_some h
    refine g_after (g_runV (n := 2) C dX0_singer_5 rfl hi (mX1_singer C.2.2.2.2.2.2.2.2.2.2.2.1 p0 p1 p2 S _ _ h) (lw_V q1737 q1738 q1739 q99 q1740) (by decide +kernel) ⟨by rw [hRf]; exact Nat.le_of_ble_eq_true rfl, by rw [hRl]; exact Nat.le_of_ble_eq_true rfl⟩ rfl rfl (gle (gc_i (gc_r gc_0)) (by decide))) ?_
    refine g_i2l C dX0_singer_8 ?_
    refine g_last C dX0_singer_9 hF (fun S3 hF => ?_)
    refine g_goto C 21 dX0_singer_10 rfl ?_
    refine g_iconst (v := (0 : Int32)) C dX0_singer_21 rfl ?_
    cases hF
    exact g_iret C dX0_singer_22 rfl rfl
  · obtain ⟨cx, q4⟩ := xx
    refine g_caseN hF (fun e hF => ?_) (fun e hF => ?_)
    · subst e
      obtain ⟨hi, h⟩ := gV_some h
      refine g_afterT (g_runV (n := 2) C dX0_singer_5 rfl hi (mX1_singer C.2.2.2.2.2.2.2.2.2.2.2.1 p0 p1 p2 S _ _ h) (lw_V q1737 q1738 q1739 q99 q1740) (by decide +kernel) ⟨by rw [hRf]; exact Nat.le_of_ble_eq_true rfl, by rw [hRl]; exact Nat.le_of_ble_eq_true rfl⟩ rfl rfl (gle (gc_i (gc_r gc_0)) (by decide))) ?_
      refine g_catch C 0 rfl rfl rfl (by decide) rfl q1736 q1751 ?_
      refine g_astore C dX0_singer_13 (by decide) (gcons rfl (gfk rfl rfl (gfk rfl rfl (gfk rfl rfl (gfr rfl gf0))))) ?_
      refine g_iconst (v := (1 : Int32)) C dX0_singer_15 rfl ?_
      cases hF
      exact g_iret C dX0_singer_16 rfl rfl
    refine g_caseN hF (fun e hF => ?_) (fun e hF => ?_)
    · subst e
      obtain ⟨hi, h⟩ := gV_some h
      refine g_afterT (g_runV (n := 2) C dX0_singer_5 rfl hi (mX1_singer C.2.2.2.2.2.2.2.2.2.2.2.1 p0 p1 p2 S _ _ h) (lw_V q1737 q1738 q1739 q99 q1740) (by decide +kernel) ⟨by rw [hRf]; exact Nat.le_of_ble_eq_true rfl, by rw [hRl]; exact Nat.le_of_ble_eq_true rfl⟩ rfl rfl (gle (gc_i (gc_r gc_0)) (by decide))) ?_
      refine g_catchN C rfl rfl rfl (by decide) (by decide) rfl q1736 q915 q185 ?_
      refine g_astore C dX0_singer_17 (by decide) (gcons rfl (gfk rfl rfl (gfk rfl rfl (gfk rfl rfl (gfr rfl gf0))))) ?_
      refine g_iconst (v := (2 : Int32)) C dX0_singer_19 rfl ?_
      cases hF
      exact g_iret C dX0_singer_20 rfl rfl
    cases hF
/-! VowelChoirLaw.note(LVowelChoir;II[J)I -/
def fX0_note (p0 : Option Nat) (p1 : Int32) (p2 : Int32) (p3 : Option Nat) (S : gS) : Option (Int32 × gS) :=
  gC (gV [0] p0 S (fX1_note p0 p1 p2 S)) (fun x1 S2 =>
  (oStL p3 (0 : Int32) x1.toInt64 S2).bind fun S3 =>
  some ((0 : Int32), S3)) (fun cx q4 S2 => if cx = 32 then
  some ((1 : Int32), S2)
  else if cx = 31 then
  some ((2 : Int32), S2)
  else none)
theorem mX0_note {l : Launch} {D : gD} {K : gK} (hl : l.stackTraces = false) : ∀ (p0 : Option Nat) (p1 : Int32) (p2 : Int32) (p3 : Option Nat) (S : gS) (r : Int32) (S1 : gS), fX0_note p0 p1 p2 p3 S = some (r, S1) → gMet l D K yX0_note (wsW_ yX0_note cX0_note 5 (Option.some Jvm.ClassFile.FieldType.int) [(0, 10, 13, 31), (0, 10, 17, 13)]) 607 28837 [va_rf p0, .int p1, .int p2, va_rf p3] S (.inl (some (.int r))) S1 := by
  intro p0 p1 p2 p3 S r S1 hF
  unfold fX0_note at hF
  refine gMet.ofH hl (by decide +kernel) rfl (gle (lgs_r (lgs_i (lgs_i (lgs_r lgs_0)))) (by decide)) (fun p e s m below meth c R hRf hRl C _ => ?_)
  generalize hargs : ([va_rf p0, .int p1, .int p2, va_rf p3] : List Value).toArray = args at C ⊢
  generalize hu0 : S.2.2.1 = u0 at C ⊢
  rw [show lv_args 0 [va_rf p0, .int p1, .int p2, va_rf p3] = [(0, va_rf p0), (1, .int p1), (2, .int p2), (3, va_rf p3)] from (lva_r rfl (lva_i rfl (lva_i rfl (lva_r rfl lva_0))))]
  refine g_aload_n C 3 dX0_note_0 rfl ?_
  refine g_iconst (v := (0 : Int32)) C dX0_note_1 rfl ?_
  refine g_aload_n C 0 dX0_note_2 rfl ?_
  refine g_iload_n C 1 dX0_note_3 rfl ?_
  refine g_iload_n C 2 dX0_note_4 rfl ?_
  rcases gC_cases hF with ⟨x1, S2, h, hF⟩ | ⟨xx, S2, h, hF⟩
  · obtain ⟨hi, h⟩ := gV_some h
    refine g_after (g_runV (n := 2) C dX0_note_5 rfl hi (mX1_note C.2.2.2.2.2.2.2.2.2.2.2.1 p0 p1 p2 S _ _ h) (lw_V q1767 q1768 q1769 q99 q1770) (by decide +kernel) ⟨by rw [hRf]; exact Nat.le_of_ble_eq_true rfl, by rw [hRl]; exact Nat.le_of_ble_eq_true rfl⟩ rfl rfl (gle (gc_i (gc_r gc_0)) (by decide))) ?_
    refine g_i2l C dX0_note_8 ?_
    refine g_last C dX0_note_9 hF (fun S3 hF => ?_)
    refine g_goto C 21 dX0_note_10 rfl ?_
    refine g_iconst (v := (0 : Int32)) C dX0_note_21 rfl ?_
    cases hF
    exact g_iret C dX0_note_22 rfl rfl
  · obtain ⟨cx, q4⟩ := xx
    refine g_caseN hF (fun e hF => ?_) (fun e hF => ?_)
    · subst e
      obtain ⟨hi, h⟩ := gV_some h
      refine g_afterT (g_runV (n := 2) C dX0_note_5 rfl hi (mX1_note C.2.2.2.2.2.2.2.2.2.2.2.1 p0 p1 p2 S _ _ h) (lw_V q1767 q1768 q1769 q99 q1770) (by decide +kernel) ⟨by rw [hRf]; exact Nat.le_of_ble_eq_true rfl, by rw [hRl]; exact Nat.le_of_ble_eq_true rfl⟩ rfl rfl (gle (gc_i (gc_r gc_0)) (by decide))) ?_
      refine g_catch C 0 rfl rfl rfl (by decide) rfl q1736 q1751 ?_
      refine g_astore C dX0_note_13 (by decide) (gcons rfl (gfk rfl rfl (gfk rfl rfl (gfk rfl rfl (gfr rfl gf0))))) ?_
      refine g_iconst (v := (1 : Int32)) C dX0_note_15 rfl ?_
      cases hF
      exact g_iret C dX0_note_16 rfl rfl
    refine g_caseN hF (fun e hF => ?_) (fun e hF => ?_)
    · subst e
      obtain ⟨hi, h⟩ := gV_some h
      refine g_afterT (g_runV (n := 2) C dX0_note_5 rfl hi (mX1_note C.2.2.2.2.2.2.2.2.2.2.2.1 p0 p1 p2 S _ _ h) (lw_V q1767 q1768 q1769 q99 q1770) (by decide +kernel) ⟨by rw [hRf]; exact Nat.le_of_ble_eq_true rfl, by rw [hRl]; exact Nat.le_of_ble_eq_true rfl⟩ rfl rfl (gle (gc_i (gc_r gc_0)) (by decide))) ?_
      refine g_catchN C rfl rfl rfl (by decide) (by decide) rfl q1736 q915 q185 ?_
      refine g_astore C dX0_note_17 (by decide) (gcons rfl (gfk rfl rfl (gfk rfl rfl (gfk rfl rfl (gfr rfl gf0))))) ?_
      refine g_iconst (v := (2 : Int32)) C dX0_note_19 rfl ?_
      cases hF
      exact g_iret C dX0_note_20 rfl rfl
    cases hF
/-! VowelChoirLaw.like(LVowelChoir;II[J)I -/
def fX0_like (p0 : Option Nat) (p1 : Int32) (p2 : Int32) (p3 : Option Nat) (S : gS) : Option (Int32 × gS) :=
  gC (gV [0] p0 S (fX1_like p0 p1 p2 S)) (fun x1 S2 =>
  (oStL p3 (0 : Int32) x1.toInt64 S2).bind fun S3 =>
  some ((0 : Int32), S3)) (fun cx q4 S2 => if cx = 32 then
  some ((1 : Int32), S2)
  else if cx = 31 then
  some ((2 : Int32), S2)
  else none)
theorem mX0_like {l : Launch} {D : gD} {K : gK} (hl : l.stackTraces = false) : ∀ (p0 : Option Nat) (p1 : Int32) (p2 : Int32) (p3 : Option Nat) (S : gS) (r : Int32) (S1 : gS), fX0_like p0 p1 p2 p3 S = some (r, S1) → gMet l D K yX0_like (wsW_ yX0_like cX0_like 5 (Option.some Jvm.ClassFile.FieldType.int) [(0, 10, 13, 31), (0, 10, 17, 13)]) 9 186 [va_rf p0, .int p1, .int p2, va_rf p3] S (.inl (some (.int r))) S1 := by
  intro p0 p1 p2 p3 S r S1 hF
  unfold fX0_like at hF
  refine gMet.ofH hl (by decide +kernel) rfl (gle (lgs_r (lgs_i (lgs_i (lgs_r lgs_0)))) (by decide)) (fun p e s m below meth c R hRf hRl C _ => ?_)
  generalize hargs : ([va_rf p0, .int p1, .int p2, va_rf p3] : List Value).toArray = args at C ⊢
  generalize hu0 : S.2.2.1 = u0 at C ⊢
  rw [show lv_args 0 [va_rf p0, .int p1, .int p2, va_rf p3] = [(0, va_rf p0), (1, .int p1), (2, .int p2), (3, va_rf p3)] from (lva_r rfl (lva_i rfl (lva_i rfl (lva_r rfl lva_0))))]
  refine g_aload_n C 3 dX0_like_0 rfl ?_
  refine g_iconst (v := (0 : Int32)) C dX0_like_1 rfl ?_
  refine g_aload_n C 0 dX0_like_2 rfl ?_
  refine g_iload_n C 1 dX0_like_3 rfl ?_
  refine g_iload_n C 2 dX0_like_4 rfl ?_
  rcases gC_cases hF with ⟨x1, S2, h, hF⟩ | ⟨xx, S2, h, hF⟩
  · obtain ⟨hi, h⟩ := gV_some h
    refine g_after (g_runV (n := 2) C dX0_like_5 rfl hi (mX1_like C.2.2.2.2.2.2.2.2.2.2.2.1 p0 p1 p2 S _ _ h) (lw_V q1778 q1779 q1780 q99 q1781) (by decide +kernel) ⟨by rw [hRf]; exact Nat.le_of_ble_eq_true rfl, by rw [hRl]; exact Nat.le_of_ble_eq_true rfl⟩ rfl rfl (gle (gc_i (gc_r gc_0)) (by decide))) ?_
    refine g_i2l C dX0_like_8 ?_
    refine g_last C dX0_like_9 hF (fun S3 hF => ?_)
    refine g_goto C 21 dX0_like_10 rfl ?_
    refine g_iconst (v := (0 : Int32)) C dX0_like_21 rfl ?_
    cases hF
    exact g_iret C dX0_like_22 rfl rfl
  · obtain ⟨cx, q4⟩ := xx
    refine g_caseN hF (fun e hF => ?_) (fun e hF => ?_)
    · subst e
      obtain ⟨hi, h⟩ := gV_some h
      refine g_afterT (g_runV (n := 2) C dX0_like_5 rfl hi (mX1_like C.2.2.2.2.2.2.2.2.2.2.2.1 p0 p1 p2 S _ _ h) (lw_V q1778 q1779 q1780 q99 q1781) (by decide +kernel) ⟨by rw [hRf]; exact Nat.le_of_ble_eq_true rfl, by rw [hRl]; exact Nat.le_of_ble_eq_true rfl⟩ rfl rfl (gle (gc_i (gc_r gc_0)) (by decide))) ?_
      refine g_catch C 0 rfl rfl rfl (by decide) rfl q1736 q1751 ?_
      refine g_astore C dX0_like_13 (by decide) (gcons rfl (gfk rfl rfl (gfk rfl rfl (gfk rfl rfl (gfr rfl gf0))))) ?_
      refine g_iconst (v := (1 : Int32)) C dX0_like_15 rfl ?_
      cases hF
      exact g_iret C dX0_like_16 rfl rfl
    refine g_caseN hF (fun e hF => ?_) (fun e hF => ?_)
    · subst e
      obtain ⟨hi, h⟩ := gV_some h
      refine g_afterT (g_runV (n := 2) C dX0_like_5 rfl hi (mX1_like C.2.2.2.2.2.2.2.2.2.2.2.1 p0 p1 p2 S _ _ h) (lw_V q1778 q1779 q1780 q99 q1781) (by decide +kernel) ⟨by rw [hRf]; exact Nat.le_of_ble_eq_true rfl, by rw [hRl]; exact Nat.le_of_ble_eq_true rfl⟩ rfl rfl (gle (gc_i (gc_r gc_0)) (by decide))) ?_
      refine g_catchN C rfl rfl rfl (by decide) (by decide) rfl q1736 q915 q185 ?_
      refine g_astore C dX0_like_17 (by decide) (gcons rfl (gfk rfl rfl (gfk rfl rfl (gfk rfl rfl (gfr rfl gf0))))) ?_
      refine g_iconst (v := (2 : Int32)) C dX0_like_19 rfl ?_
      cases hF
      exact g_iret C dX0_like_20 rfl rfl
    cases hF
/-! VowelChoirLaw.takes(LVowelChoir;II[J)I -/
def fX0_takes (p0 : Option Nat) (p1 : Int32) (p2 : Int32) (p3 : Option Nat) (S : gS) : Option (Int32 × gS) :=
  gC (gV [0] p0 S (fX1_takes p0 p1 p2 S)) (fun x1 S2 =>
  (oStL p3 (0 : Int32) x1.toInt64 S2).bind fun S3 =>
  some ((0 : Int32), S3)) (fun cx q4 S2 => if cx = 32 then
  some ((1 : Int32), S2)
  else none)
theorem mX0_takes {l : Launch} {D : gD} {K : gK} (hl : l.stackTraces = false) : ∀ (p0 : Option Nat) (p1 : Int32) (p2 : Int32) (p3 : Option Nat) (S : gS) (r : Int32) (S1 : gS), fX0_takes p0 p1 p2 p3 S = some (r, S1) → gMet l D K yX0_takes (wsW_ yX0_takes cX0_takes 5 (Option.some Jvm.ClassFile.FieldType.int) [(0, 10, 13, 31)]) 605 28793 [va_rf p0, .int p1, .int p2, va_rf p3] S (.inl (some (.int r))) S1 := by
  intro p0 p1 p2 p3 S r S1 hF
  unfold fX0_takes at hF
  refine gMet.ofH hl (by decide +kernel) rfl (gle (lgs_r (lgs_i (lgs_i (lgs_r lgs_0)))) (by decide)) (fun p e s m below meth c R hRf hRl C _ => ?_)
  generalize hargs : ([va_rf p0, .int p1, .int p2, va_rf p3] : List Value).toArray = args at C ⊢
  generalize hu0 : S.2.2.1 = u0 at C ⊢
  rw [show lv_args 0 [va_rf p0, .int p1, .int p2, va_rf p3] = [(0, va_rf p0), (1, .int p1), (2, .int p2), (3, va_rf p3)] from (lva_r rfl (lva_i rfl (lva_i rfl (lva_r rfl lva_0))))]
  refine g_aload_n C 3 dX0_takes_0 rfl ?_
  refine g_iconst (v := (0 : Int32)) C dX0_takes_1 rfl ?_
  refine g_aload_n C 0 dX0_takes_2 rfl ?_
  refine g_iload_n C 1 dX0_takes_3 rfl ?_
  refine g_iload_n C 2 dX0_takes_4 rfl ?_
  rcases gC_cases hF with ⟨x1, S2, h, hF⟩ | ⟨xx, S2, h, hF⟩
  · obtain ⟨hi, h⟩ := gV_some h
    refine g_after (g_runV (n := 2) C dX0_takes_5 rfl hi (mX1_takes C.2.2.2.2.2.2.2.2.2.2.2.1 p0 p1 p2 S _ _ h) (lw_V q1785 q1786 q1787 q99 q1788) (by decide +kernel) ⟨by rw [hRf]; exact Nat.le_of_ble_eq_true rfl, by rw [hRl]; exact Nat.le_of_ble_eq_true rfl⟩ rfl rfl (gle (gc_i (gc_r gc_0)) (by decide))) ?_
    refine g_i2l C dX0_takes_8 ?_
    refine g_last C dX0_takes_9 hF (fun S3 hF => ?_)
    refine g_goto C 17 dX0_takes_10 rfl ?_
    refine g_iconst (v := (0 : Int32)) C dX0_takes_17 rfl ?_
    cases hF
    exact g_iret C dX0_takes_18 rfl rfl
  · obtain ⟨cx, q4⟩ := xx
    refine g_caseN hF (fun e hF => ?_) (fun e hF => ?_)
    · subst e
      obtain ⟨hi, h⟩ := gV_some h
      refine g_afterT (g_runV (n := 2) C dX0_takes_5 rfl hi (mX1_takes C.2.2.2.2.2.2.2.2.2.2.2.1 p0 p1 p2 S _ _ h) (lw_V q1785 q1786 q1787 q99 q1788) (by decide +kernel) ⟨by rw [hRf]; exact Nat.le_of_ble_eq_true rfl, by rw [hRl]; exact Nat.le_of_ble_eq_true rfl⟩ rfl rfl (gle (gc_i (gc_r gc_0)) (by decide))) ?_
      refine g_catch C 0 rfl rfl rfl (by decide) rfl q1736 q1751 ?_
      refine g_astore C dX0_takes_13 (by decide) (gcons rfl (gfk rfl rfl (gfk rfl rfl (gfk rfl rfl (gfr rfl gf0))))) ?_
      refine g_iconst (v := (1 : Int32)) C dX0_takes_15 rfl ?_
      cases hF
      exact g_iret C dX0_takes_16 rfl rfl
    cases hF
/-! VowelChoirLaw.would(LVowelChoir;IIIIIIII[J)I -/
def fX0_would (p0 : Option Nat) (p1 : Int32) (p2 : Int32) (p3 : Int32) (p4 : Int32) (p5 : Int32) (p6 : Int32) (p7 : Int32) (p8 : Int32) (p9 : Option Nat) (S : gS) : Option (Int32 × gS) :=
  gC (gV [0] p0 S (fX1_would p0 p1 p2 p3 p4 p5 p6 p7 p8 S)) (fun x1 S2 =>
  (oStL p9 (0 : Int32) x1.toInt64 S2).bind fun S3 =>
  some ((0 : Int32), S3)) (fun cx q4 S2 => if cx = 31 then
  some ((1 : Int32), S2)
  else none)
theorem mX0_would {l : Launch} {D : gD} {K : gK} (hl : l.stackTraces = false) : ∀ (p0 : Option Nat) (p1 : Int32) (p2 : Int32) (p3 : Int32) (p4 : Int32) (p5 : Int32) (p6 : Int32) (p7 : Int32) (p8 : Int32) (p9 : Option Nat) (S : gS) (r : Int32) (S1 : gS), fX0_would p0 p1 p2 p3 p4 p5 p6 p7 p8 p9 S = some (r, S1) → gMet l D K yX0_would (wsW_ yX0_would cX0_would 11 (Option.some Jvm.ClassFile.FieldType.int) [(0, 22, 25, 13)]) 604 28777 [va_rf p0, .int p1, .int p2, .int p3, .int p4, .int p5, .int p6, .int p7, .int p8, va_rf p9] S (.inl (some (.int r))) S1 := by
  intro p0 p1 p2 p3 p4 p5 p6 p7 p8 p9 S r S1 hF
  unfold fX0_would at hF
  refine gMet.ofH hl (by decide +kernel) rfl (gle (lgs_r (lgs_i (lgs_i (lgs_i (lgs_i (lgs_i (lgs_i (lgs_i (lgs_i (lgs_r lgs_0)))))))))) (by decide)) (fun p e s m below meth c R hRf hRl C _ => ?_)
  generalize hargs : ([va_rf p0, .int p1, .int p2, .int p3, .int p4, .int p5, .int p6, .int p7, .int p8, va_rf p9] : List Value).toArray = args at C ⊢
  generalize hu0 : S.2.2.1 = u0 at C ⊢
  rw [show lv_args 0 [va_rf p0, .int p1, .int p2, .int p3, .int p4, .int p5, .int p6, .int p7, .int p8, va_rf p9] = [(0, va_rf p0), (1, .int p1), (2, .int p2), (3, .int p3), (4, .int p4), (5, .int p5), (6, .int p6), (7, .int p7), (8, .int p8), (9, va_rf p9)] from (lva_r rfl (lva_i rfl (lva_i rfl (lva_i rfl (lva_i rfl (lva_i rfl (lva_i rfl (lva_i rfl (lva_i rfl (lva_r rfl lva_0))))))))))]
  refine g_aload C 9 dX0_would_0 rfl ?_
  refine g_iconst (v := (0 : Int32)) C dX0_would_2 rfl ?_
  refine g_aload_n C 0 dX0_would_3 rfl ?_
  refine g_iload_n C 1 dX0_would_4 rfl ?_
  refine g_iload_n C 2 dX0_would_5 rfl ?_
  refine g_iload_n C 3 dX0_would_6 rfl ?_
  refine g_iload C 4 dX0_would_7 rfl ?_
  refine g_iload C 5 dX0_would_9 rfl ?_
  refine g_iload C 6 dX0_would_11 rfl ?_
  refine g_iload C 7 dX0_would_13 rfl ?_
  refine g_iload C 8 dX0_would_15 rfl ?_
  rcases gC_cases hF with ⟨x1, S2, h, hF⟩ | ⟨xx, S2, h, hF⟩
  · obtain ⟨hi, h⟩ := gV_some h
    refine g_after (g_runV (n := 8) C dX0_would_17 rfl hi (mX1_would C.2.2.2.2.2.2.2.2.2.2.2.1 p0 p1 p2 p3 p4 p5 p6 p7 p8 S _ _ h) (lw_V q1793 q1794 q1795 q99 q1796) (by decide +kernel) ⟨by rw [hRf]; exact Nat.le_of_ble_eq_true rfl, by rw [hRl]; exact Nat.le_of_ble_eq_true rfl⟩ rfl rfl (gle (gc_i (gc_r gc_0)) (by decide))) ?_
    refine g_i2l C dX0_would_20 ?_
    refine g_last C dX0_would_21 hF (fun S3 hF => ?_)
    refine g_goto C 29 dX0_would_22 rfl ?_
    refine g_iconst (v := (0 : Int32)) C dX0_would_29 rfl ?_
    cases hF
    exact g_iret C dX0_would_30 rfl rfl
  · obtain ⟨cx, q4⟩ := xx
    refine g_caseN hF (fun e hF => ?_) (fun e hF => ?_)
    · subst e
      obtain ⟨hi, h⟩ := gV_some h
      refine g_afterT (g_runV (n := 8) C dX0_would_17 rfl hi (mX1_would C.2.2.2.2.2.2.2.2.2.2.2.1 p0 p1 p2 p3 p4 p5 p6 p7 p8 S _ _ h) (lw_V q1793 q1794 q1795 q99 q1796) (by decide +kernel) ⟨by rw [hRf]; exact Nat.le_of_ble_eq_true rfl, by rw [hRl]; exact Nat.le_of_ble_eq_true rfl⟩ rfl rfl (gle (gc_i (gc_r gc_0)) (by decide))) ?_
      refine g_catch C 0 rfl rfl rfl (by decide) rfl q915 q185 ?_
      refine g_astore C dX0_would_25 (by decide) (gcons rfl (gfk rfl rfl (gfk rfl rfl (gfk rfl rfl (gfk rfl rfl (gfk rfl rfl (gfk rfl rfl (gfk rfl rfl (gfk rfl rfl (gfk rfl rfl (gfr rfl gf0))))))))))) ?_
      refine g_iconst (v := (1 : Int32)) C dX0_would_27 rfl ?_
      cases hF
      exact g_iret C dX0_would_28 rfl rfl
    cases hF
/-! VowelChoirLaw.ahead(LVowelChoir;II[J)I -/
def fX0_ahead (p0 : Option Nat) (p1 : Int32) (p2 : Int32) (p3 : Option Nat) (S : gS) : Option (Int32 × gS) :=
  gC (gV [0] p0 S (fX1_ahead p0 p1 p2 S)) (fun x1 S2 =>
  (oStL p3 (0 : Int32) x1.toInt64 S2).bind fun S3 =>
  some ((0 : Int32), S3)) (fun cx q4 S2 => if cx = 31 then
  some ((1 : Int32), S2)
  else none)
theorem mX0_ahead {l : Launch} {D : gD} {K : gK} (hl : l.stackTraces = false) : ∀ (p0 : Option Nat) (p1 : Int32) (p2 : Int32) (p3 : Option Nat) (S : gS) (r : Int32) (S1 : gS), fX0_ahead p0 p1 p2 p3 S = some (r, S1) → gMet l D K yX0_ahead (wsW_ yX0_ahead cX0_ahead 5 (Option.some Jvm.ClassFile.FieldType.int) [(0, 10, 13, 13)]) 609 28884 [va_rf p0, .int p1, .int p2, va_rf p3] S (.inl (some (.int r))) S1 := by
  intro p0 p1 p2 p3 S r S1 hF
  unfold fX0_ahead at hF
  refine gMet.ofH hl (by decide +kernel) rfl (gle (lgs_r (lgs_i (lgs_i (lgs_r lgs_0)))) (by decide)) (fun p e s m below meth c R hRf hRl C _ => ?_)
  generalize hargs : ([va_rf p0, .int p1, .int p2, va_rf p3] : List Value).toArray = args at C ⊢
  generalize hu0 : S.2.2.1 = u0 at C ⊢
  rw [show lv_args 0 [va_rf p0, .int p1, .int p2, va_rf p3] = [(0, va_rf p0), (1, .int p1), (2, .int p2), (3, va_rf p3)] from (lva_r rfl (lva_i rfl (lva_i rfl (lva_r rfl lva_0))))]
  refine g_aload_n C 3 dX0_ahead_0 rfl ?_
  refine g_iconst (v := (0 : Int32)) C dX0_ahead_1 rfl ?_
  refine g_aload_n C 0 dX0_ahead_2 rfl ?_
  refine g_iload_n C 1 dX0_ahead_3 rfl ?_
  refine g_iload_n C 2 dX0_ahead_4 rfl ?_
  rcases gC_cases hF with ⟨x1, S2, h, hF⟩ | ⟨xx, S2, h, hF⟩
  · obtain ⟨hi, h⟩ := gV_some h
    refine g_after (g_runV (n := 2) C dX0_ahead_5 rfl hi (mX1_ahead C.2.2.2.2.2.2.2.2.2.2.2.1 p0 p1 p2 S _ _ h) (lw_V q1804 q1805 q1806 q99 q1807) (by decide +kernel) ⟨by rw [hRf]; exact Nat.le_of_ble_eq_true rfl, by rw [hRl]; exact Nat.le_of_ble_eq_true rfl⟩ rfl rfl (gle (gc_i (gc_r gc_0)) (by decide))) ?_
    refine g_i2l C dX0_ahead_8 ?_
    refine g_last C dX0_ahead_9 hF (fun S3 hF => ?_)
    refine g_goto C 17 dX0_ahead_10 rfl ?_
    refine g_iconst (v := (0 : Int32)) C dX0_ahead_17 rfl ?_
    cases hF
    exact g_iret C dX0_ahead_18 rfl rfl
  · obtain ⟨cx, q4⟩ := xx
    refine g_caseN hF (fun e hF => ?_) (fun e hF => ?_)
    · subst e
      obtain ⟨hi, h⟩ := gV_some h
      refine g_afterT (g_runV (n := 2) C dX0_ahead_5 rfl hi (mX1_ahead C.2.2.2.2.2.2.2.2.2.2.2.1 p0 p1 p2 S _ _ h) (lw_V q1804 q1805 q1806 q99 q1807) (by decide +kernel) ⟨by rw [hRf]; exact Nat.le_of_ble_eq_true rfl, by rw [hRl]; exact Nat.le_of_ble_eq_true rfl⟩ rfl rfl (gle (gc_i (gc_r gc_0)) (by decide))) ?_
      refine g_catch C 0 rfl rfl rfl (by decide) rfl q915 q185 ?_
      refine g_astore C dX0_ahead_13 (by decide) (gcons rfl (gfk rfl rfl (gfk rfl rfl (gfk rfl rfl (gfr rfl gf0))))) ?_
      refine g_iconst (v := (1 : Int32)) C dX0_ahead_15 rfl ?_
      cases hF
      exact g_iret C dX0_ahead_16 rfl rfl
    cases hF
/-! VowelChoirLaw.handed(LVowelChoir;II[J)I -/
def fX0_handed (p0 : Option Nat) (p1 : Int32) (p2 : Int32) (p3 : Option Nat) (S : gS) : Option (Int32 × gS) :=
  gC (gV [0] p0 S (fX1_handed p0 p1 p2 S)) (fun x1 S2 =>
  (oStL p3 (0 : Int32) x1.toInt64 S2).bind fun S3 =>
  some ((0 : Int32), S3)) (fun cx q4 S2 => if cx = 31 then
  some ((1 : Int32), S2)
  else none)
theorem mX0_handed {l : Launch} {D : gD} {K : gK} (hl : l.stackTraces = false) : ∀ (p0 : Option Nat) (p1 : Int32) (p2 : Int32) (p3 : Option Nat) (S : gS) (r : Int32) (S1 : gS), fX0_handed p0 p1 p2 p3 S = some (r, S1) → gMet l D K yX0_handed (wsW_ yX0_handed cX0_handed 5 (Option.some Jvm.ClassFile.FieldType.int) [(0, 10, 13, 13)]) 9 186 [va_rf p0, .int p1, .int p2, va_rf p3] S (.inl (some (.int r))) S1 := by
  intro p0 p1 p2 p3 S r S1 hF
  unfold fX0_handed at hF
  refine gMet.ofH hl (by decide +kernel) rfl (gle (lgs_r (lgs_i (lgs_i (lgs_r lgs_0)))) (by decide)) (fun p e s m below meth c R hRf hRl C _ => ?_)
  generalize hargs : ([va_rf p0, .int p1, .int p2, va_rf p3] : List Value).toArray = args at C ⊢
  generalize hu0 : S.2.2.1 = u0 at C ⊢
  rw [show lv_args 0 [va_rf p0, .int p1, .int p2, va_rf p3] = [(0, va_rf p0), (1, .int p1), (2, .int p2), (3, va_rf p3)] from (lva_r rfl (lva_i rfl (lva_i rfl (lva_r rfl lva_0))))]
  refine g_aload_n C 3 dX0_handed_0 rfl ?_
  refine g_iconst (v := (0 : Int32)) C dX0_handed_1 rfl ?_
  refine g_aload_n C 0 dX0_handed_2 rfl ?_
  refine g_iload_n C 1 dX0_handed_3 rfl ?_
  refine g_iload_n C 2 dX0_handed_4 rfl ?_
  rcases gC_cases hF with ⟨x1, S2, h, hF⟩ | ⟨xx, S2, h, hF⟩
  · obtain ⟨hi, h⟩ := gV_some h
    refine g_after (g_runV (n := 2) C dX0_handed_5 rfl hi (mX1_handed C.2.2.2.2.2.2.2.2.2.2.2.1 p0 p1 p2 S _ _ h) (lw_V q1811 q1812 q1813 q99 q1814) (by decide +kernel) ⟨by rw [hRf]; exact Nat.le_of_ble_eq_true rfl, by rw [hRl]; exact Nat.le_of_ble_eq_true rfl⟩ rfl rfl (gle (gc_i (gc_r gc_0)) (by decide))) ?_
    refine g_i2l C dX0_handed_8 ?_
    refine g_last C dX0_handed_9 hF (fun S3 hF => ?_)
    refine g_goto C 17 dX0_handed_10 rfl ?_
    refine g_iconst (v := (0 : Int32)) C dX0_handed_17 rfl ?_
    cases hF
    exact g_iret C dX0_handed_18 rfl rfl
  · obtain ⟨cx, q4⟩ := xx
    refine g_caseN hF (fun e hF => ?_) (fun e hF => ?_)
    · subst e
      obtain ⟨hi, h⟩ := gV_some h
      refine g_afterT (g_runV (n := 2) C dX0_handed_5 rfl hi (mX1_handed C.2.2.2.2.2.2.2.2.2.2.2.1 p0 p1 p2 S _ _ h) (lw_V q1811 q1812 q1813 q99 q1814) (by decide +kernel) ⟨by rw [hRf]; exact Nat.le_of_ble_eq_true rfl, by rw [hRl]; exact Nat.le_of_ble_eq_true rfl⟩ rfl rfl (gle (gc_i (gc_r gc_0)) (by decide))) ?_
      refine g_catch C 0 rfl rfl rfl (by decide) rfl q915 q185 ?_
      refine g_astore C dX0_handed_13 (by decide) (gcons rfl (gfk rfl rfl (gfk rfl rfl (gfk rfl rfl (gfr rfl gf0))))) ?_
      refine g_iconst (v := (1 : Int32)) C dX0_handed_15 rfl ?_
      cases hF
      exact g_iret C dX0_handed_16 rfl rfl
    cases hF
/-! VowelChoirLaw.benched(LVowelChoir;I[J)I -/
def fX0_benched (p0 : Option Nat) (p1 : Int32) (p2 : Option Nat) (S : gS) : Option (Int32 × gS) :=
  gC (gV [0] p0 S (fX1_benched p0 p1 S)) (fun x1 S2 =>
  (oStL p2 (0 : Int32) x1.toInt64 S2).bind fun S3 =>
  some ((0 : Int32), S3)) (fun cx q4 S2 => if cx = 31 then
  some ((1 : Int32), S2)
  else none)
theorem mX0_benched {l : Launch} {D : gD} {K : gK} (hl : l.stackTraces = false) : ∀ (p0 : Option Nat) (p1 : Int32) (p2 : Option Nat) (S : gS) (r : Int32) (S1 : gS), fX0_benched p0 p1 p2 S = some (r, S1) → gMet l D K yX0_benched (wsW_ yX0_benched cX0_benched 4 (Option.some Jvm.ClassFile.FieldType.int) [(0, 9, 12, 13)]) 9 280 [va_rf p0, .int p1, va_rf p2] S (.inl (some (.int r))) S1 := by
  intro p0 p1 p2 S r S1 hF
  unfold fX0_benched at hF
  refine gMet.ofH hl (by decide +kernel) rfl (gle (lgs_r (lgs_i (lgs_r lgs_0))) (by decide)) (fun p e s m below meth c R hRf hRl C _ => ?_)
  generalize hargs : ([va_rf p0, .int p1, va_rf p2] : List Value).toArray = args at C ⊢
  generalize hu0 : S.2.2.1 = u0 at C ⊢
  rw [show lv_args 0 [va_rf p0, .int p1, va_rf p2] = [(0, va_rf p0), (1, .int p1), (2, va_rf p2)] from (lva_r rfl (lva_i rfl (lva_r rfl lva_0)))]
  refine g_aload_n C 2 dX0_benched_0 rfl ?_
  refine g_iconst (v := (0 : Int32)) C dX0_benched_1 rfl ?_
  refine g_aload_n C 0 dX0_benched_2 rfl ?_
  refine g_iload_n C 1 dX0_benched_3 rfl ?_
  rcases gC_cases hF with ⟨x1, S2, h, hF⟩ | ⟨xx, S2, h, hF⟩
  · obtain ⟨hi, h⟩ := gV_some h
    refine g_after (g_runV (n := 1) C dX0_benched_4 rfl hi (mX1_benched C.2.2.2.2.2.2.2.2.2.2.2.1 p0 p1 S _ _ h) (lw_V q1818 q1819 q1820 q99 q1821) (by decide +kernel) ⟨by rw [hRf]; exact Nat.le_of_ble_eq_true rfl, by rw [hRl]; exact Nat.le_of_ble_eq_true rfl⟩ rfl rfl (gle (gc_i (gc_r gc_0)) (by decide))) ?_
    refine g_i2l C dX0_benched_7 ?_
    refine g_last C dX0_benched_8 hF (fun S3 hF => ?_)
    refine g_goto C 15 dX0_benched_9 rfl ?_
    refine g_iconst (v := (0 : Int32)) C dX0_benched_15 rfl ?_
    cases hF
    exact g_iret C dX0_benched_16 rfl rfl
  · obtain ⟨cx, q4⟩ := xx
    refine g_caseN hF (fun e hF => ?_) (fun e hF => ?_)
    · subst e
      obtain ⟨hi, h⟩ := gV_some h
      refine g_afterT (g_runV (n := 1) C dX0_benched_4 rfl hi (mX1_benched C.2.2.2.2.2.2.2.2.2.2.2.1 p0 p1 S _ _ h) (lw_V q1818 q1819 q1820 q99 q1821) (by decide +kernel) ⟨by rw [hRf]; exact Nat.le_of_ble_eq_true rfl, by rw [hRl]; exact Nat.le_of_ble_eq_true rfl⟩ rfl rfl (gle (gc_i (gc_r gc_0)) (by decide))) ?_
      refine g_catch C 0 rfl rfl rfl (by decide) rfl q915 q185 ?_
      refine g_astore_n C dX0_benched_12 (by decide) (gcons rfl (gfk rfl rfl (gfk rfl rfl (gfr rfl gf0)))) ?_
      refine g_iconst (v := (1 : Int32)) C dX0_benched_13 rfl ?_
      cases hF
      exact g_iret C dX0_benched_14 rfl rfl
    cases hF
/-! VowelChoirLaw.wordings(LVowelChoir;I[J)I -/
def fX0_wordings (p0 : Option Nat) (p1 : Int32) (p2 : Option Nat) (S : gS) : Option (Int32 × gS) :=
  gC (gV [0] p0 S (fX1_wordings p0 p1 S)) (fun x1 S2 =>
  (oStL p2 (0 : Int32) x1 S2).bind fun S3 =>
  some ((0 : Int32), S3)) (fun cx q4 S2 => if cx = 31 then
  some ((1 : Int32), S2)
  else none)
theorem mX0_wordings {l : Launch} {D : gD} {K : gK} (hl : l.stackTraces = false) : ∀ (p0 : Option Nat) (p1 : Int32) (p2 : Option Nat) (S : gS) (r : Int32) (S1 : gS), fX0_wordings p0 p1 p2 S = some (r, S1) → gMet l D K yX0_wordings (wsW_ yX0_wordings cX0_wordings 4 (Option.some Jvm.ClassFile.FieldType.int) [(0, 8, 11, 13)]) 9 253 [va_rf p0, .int p1, va_rf p2] S (.inl (some (.int r))) S1 := by
  intro p0 p1 p2 S r S1 hF
  unfold fX0_wordings at hF
  refine gMet.ofH hl (by decide +kernel) rfl (gle (lgs_r (lgs_i (lgs_r lgs_0))) (by decide)) (fun p e s m below meth c R hRf hRl C _ => ?_)
  generalize hargs : ([va_rf p0, .int p1, va_rf p2] : List Value).toArray = args at C ⊢
  generalize hu0 : S.2.2.1 = u0 at C ⊢
  rw [show lv_args 0 [va_rf p0, .int p1, va_rf p2] = [(0, va_rf p0), (1, .int p1), (2, va_rf p2)] from (lva_r rfl (lva_i rfl (lva_r rfl lva_0)))]
  refine g_aload_n C 2 dX0_wordings_0 rfl ?_
  refine g_iconst (v := (0 : Int32)) C dX0_wordings_1 rfl ?_
  refine g_aload_n C 0 dX0_wordings_2 rfl ?_
  refine g_iload_n C 1 dX0_wordings_3 rfl ?_
  rcases gC_cases hF with ⟨x1, S2, h, hF⟩ | ⟨xx, S2, h, hF⟩
  · obtain ⟨hi, h⟩ := gV_some h
    refine g_after (g_runV (n := 1) C dX0_wordings_4 rfl hi (mX1_wordings C.2.2.2.2.2.2.2.2.2.2.2.1 p0 p1 S _ _ h) (lw_V q1825 q1826 q1827 q99 q1828) (by decide +kernel) ⟨by rw [hRf]; exact Nat.le_of_ble_eq_true rfl, by rw [hRl]; exact Nat.le_of_ble_eq_true rfl⟩ rfl rfl (gle (gc_i (gc_r gc_0)) (by decide))) ?_
    refine g_last C dX0_wordings_7 hF (fun S3 hF => ?_)
    refine g_goto C 14 dX0_wordings_8 rfl ?_
    refine g_iconst (v := (0 : Int32)) C dX0_wordings_14 rfl ?_
    cases hF
    exact g_iret C dX0_wordings_15 rfl rfl
  · obtain ⟨cx, q4⟩ := xx
    refine g_caseN hF (fun e hF => ?_) (fun e hF => ?_)
    · subst e
      obtain ⟨hi, h⟩ := gV_some h
      refine g_afterT (g_runV (n := 1) C dX0_wordings_4 rfl hi (mX1_wordings C.2.2.2.2.2.2.2.2.2.2.2.1 p0 p1 S _ _ h) (lw_V q1825 q1826 q1827 q99 q1828) (by decide +kernel) ⟨by rw [hRf]; exact Nat.le_of_ble_eq_true rfl, by rw [hRl]; exact Nat.le_of_ble_eq_true rfl⟩ rfl rfl (gle (gc_i (gc_r gc_0)) (by decide))) ?_
      refine g_catch C 0 rfl rfl rfl (by decide) rfl q915 q185 ?_
      refine g_astore_n C dX0_wordings_11 (by decide) (gcons rfl (gfk rfl rfl (gfk rfl rfl (gfr rfl gf0)))) ?_
      refine g_iconst (v := (1 : Int32)) C dX0_wordings_12 rfl ?_
      cases hF
      exact g_iret C dX0_wordings_13 rfl rfl
    cases hF
/-! VowelChoirLaw.who(LVowelChoir;I[J)I -/
def fX0_who (p0 : Option Nat) (p1 : Int32) (p2 : Option Nat) (S : gS) : Option (Int32 × gS) :=
  gC (gV [0] p0 S (fX1_who p0 p1 S)) (fun x1 S2 =>
  (oStL p2 (0 : Int32) x1.toInt64 S2).bind fun S3 =>
  some ((0 : Int32), S3)) (fun cx q4 S2 => if cx = 31 then
  some ((1 : Int32), S2)
  else none)
theorem mX0_who {l : Launch} {D : gD} {K : gK} (hl : l.stackTraces = false) : ∀ (p0 : Option Nat) (p1 : Int32) (p2 : Option Nat) (S : gS) (r : Int32) (S1 : gS), fX0_who p0 p1 p2 S = some (r, S1) → gMet l D K yX0_who (wsW_ yX0_who cX0_who 4 (Option.some Jvm.ClassFile.FieldType.int) [(0, 9, 12, 13)]) 610 28905 [va_rf p0, .int p1, va_rf p2] S (.inl (some (.int r))) S1 := by
  intro p0 p1 p2 S r S1 hF
  unfold fX0_who at hF
  refine gMet.ofH hl (by decide +kernel) rfl (gle (lgs_r (lgs_i (lgs_r lgs_0))) (by decide)) (fun p e s m below meth c R hRf hRl C _ => ?_)
  generalize hargs : ([va_rf p0, .int p1, va_rf p2] : List Value).toArray = args at C ⊢
  generalize hu0 : S.2.2.1 = u0 at C ⊢
  rw [show lv_args 0 [va_rf p0, .int p1, va_rf p2] = [(0, va_rf p0), (1, .int p1), (2, va_rf p2)] from (lva_r rfl (lva_i rfl (lva_r rfl lva_0)))]
  refine g_aload_n C 2 dX0_who_0 rfl ?_
  refine g_iconst (v := (0 : Int32)) C dX0_who_1 rfl ?_
  refine g_aload_n C 0 dX0_who_2 rfl ?_
  refine g_iload_n C 1 dX0_who_3 rfl ?_
  rcases gC_cases hF with ⟨x1, S2, h, hF⟩ | ⟨xx, S2, h, hF⟩
  · obtain ⟨hi, h⟩ := gV_some h
    refine g_after (g_runV (n := 1) C dX0_who_4 rfl hi (mX1_who C.2.2.2.2.2.2.2.2.2.2.2.1 p0 p1 S _ _ h) (lw_V q1832 q1833 q1834 q99 q1835) (by decide +kernel) ⟨by rw [hRf]; exact Nat.le_of_ble_eq_true rfl, by rw [hRl]; exact Nat.le_of_ble_eq_true rfl⟩ rfl rfl (gle (gc_i (gc_r gc_0)) (by decide))) ?_
    refine g_i2l C dX0_who_7 ?_
    refine g_last C dX0_who_8 hF (fun S3 hF => ?_)
    refine g_goto C 15 dX0_who_9 rfl ?_
    refine g_iconst (v := (0 : Int32)) C dX0_who_15 rfl ?_
    cases hF
    exact g_iret C dX0_who_16 rfl rfl
  · obtain ⟨cx, q4⟩ := xx
    refine g_caseN hF (fun e hF => ?_) (fun e hF => ?_)
    · subst e
      obtain ⟨hi, h⟩ := gV_some h
      refine g_afterT (g_runV (n := 1) C dX0_who_4 rfl hi (mX1_who C.2.2.2.2.2.2.2.2.2.2.2.1 p0 p1 S _ _ h) (lw_V q1832 q1833 q1834 q99 q1835) (by decide +kernel) ⟨by rw [hRf]; exact Nat.le_of_ble_eq_true rfl, by rw [hRl]; exact Nat.le_of_ble_eq_true rfl⟩ rfl rfl (gle (gc_i (gc_r gc_0)) (by decide))) ?_
      refine g_catch C 0 rfl rfl rfl (by decide) rfl q915 q185 ?_
      refine g_astore_n C dX0_who_12 (by decide) (gcons rfl (gfk rfl rfl (gfk rfl rfl (gfr rfl gf0)))) ?_
      refine g_iconst (v := (1 : Int32)) C dX0_who_13 rfl ?_
      cases hF
      exact g_iret C dX0_who_14 rfl rfl
    cases hF
/-! VowelChoirLaw.listen(LVowelChoir;I[J)I -/
def fX0_listen (p0 : Option Nat) (p1 : Int32) (p2 : Option Nat) (S : gS) : Option (Int32 × gS) :=
  gC (gV [0] p0 S (fX1_listen p0 p1 S)) (fun x1 S2 =>
  (oStL p2 (0 : Int32) x1.toInt64 S2).bind fun S3 =>
  some ((0 : Int32), S3)) (fun cx q4 S2 => if cx = 31 then
  some ((1 : Int32), S2)
  else none)
theorem mX0_listen {l : Launch} {D : gD} {K : gK} (hl : l.stackTraces = false) : ∀ (p0 : Option Nat) (p1 : Int32) (p2 : Option Nat) (S : gS) (r : Int32) (S1 : gS), fX0_listen p0 p1 p2 S = some (r, S1) → gMet l D K yX0_listen (wsW_ yX0_listen cX0_listen 4 (Option.some Jvm.ClassFile.FieldType.int) [(0, 9, 12, 13)]) 610 28906 [va_rf p0, .int p1, va_rf p2] S (.inl (some (.int r))) S1 := by
  intro p0 p1 p2 S r S1 hF
  unfold fX0_listen at hF
  refine gMet.ofH hl (by decide +kernel) rfl (gle (lgs_r (lgs_i (lgs_r lgs_0))) (by decide)) (fun p e s m below meth c R hRf hRl C _ => ?_)
  generalize hargs : ([va_rf p0, .int p1, va_rf p2] : List Value).toArray = args at C ⊢
  generalize hu0 : S.2.2.1 = u0 at C ⊢
  rw [show lv_args 0 [va_rf p0, .int p1, va_rf p2] = [(0, va_rf p0), (1, .int p1), (2, va_rf p2)] from (lva_r rfl (lva_i rfl (lva_r rfl lva_0)))]
  refine g_aload_n C 2 dX0_listen_0 rfl ?_
  refine g_iconst (v := (0 : Int32)) C dX0_listen_1 rfl ?_
  refine g_aload_n C 0 dX0_listen_2 rfl ?_
  refine g_iload_n C 1 dX0_listen_3 rfl ?_
  rcases gC_cases hF with ⟨x1, S2, h, hF⟩ | ⟨xx, S2, h, hF⟩
  · obtain ⟨hi, h⟩ := gV_some h
    refine g_after (g_runV (n := 1) C dX0_listen_4 rfl hi (mX1_listen C.2.2.2.2.2.2.2.2.2.2.2.1 p0 p1 S _ _ h) (lw_V q1847 q1848 q1849 q99 q1850) (by decide +kernel) ⟨by rw [hRf]; exact Nat.le_of_ble_eq_true rfl, by rw [hRl]; exact Nat.le_of_ble_eq_true rfl⟩ rfl rfl (gle (gc_i (gc_r gc_0)) (by decide))) ?_
    refine g_i2l C dX0_listen_7 ?_
    refine g_last C dX0_listen_8 hF (fun S3 hF => ?_)
    refine g_goto C 15 dX0_listen_9 rfl ?_
    refine g_iconst (v := (0 : Int32)) C dX0_listen_15 rfl ?_
    cases hF
    exact g_iret C dX0_listen_16 rfl rfl
  · obtain ⟨cx, q4⟩ := xx
    refine g_caseN hF (fun e hF => ?_) (fun e hF => ?_)
    · subst e
      obtain ⟨hi, h⟩ := gV_some h
      refine g_afterT (g_runV (n := 1) C dX0_listen_4 rfl hi (mX1_listen C.2.2.2.2.2.2.2.2.2.2.2.1 p0 p1 S _ _ h) (lw_V q1847 q1848 q1849 q99 q1850) (by decide +kernel) ⟨by rw [hRf]; exact Nat.le_of_ble_eq_true rfl, by rw [hRl]; exact Nat.le_of_ble_eq_true rfl⟩ rfl rfl (gle (gc_i (gc_r gc_0)) (by decide))) ?_
      refine g_catch C 0 rfl rfl rfl (by decide) rfl q915 q185 ?_
      refine g_astore_n C dX0_listen_12 (by decide) (gcons rfl (gfk rfl rfl (gfk rfl rfl (gfr rfl gf0)))) ?_
      refine g_iconst (v := (1 : Int32)) C dX0_listen_13 rfl ?_
      cases hF
      exact g_iret C dX0_listen_14 rfl rfl
    cases hF
/-! VowelChoirLaw.duty(LVowelChoir;I[J)I -/
def fX0_duty (p0 : Option Nat) (p1 : Int32) (p2 : Option Nat) (S : gS) : Option (Int32 × gS) :=
  gC (gV [0] p0 S (fX1_duty p0 p1 S)) (fun x1 S2 =>
  (oStL p2 (0 : Int32) x1.toInt64 S2).bind fun S3 =>
  some ((0 : Int32), S3)) (fun cx q4 S2 => if cx = 32 then
  some ((1 : Int32), S2)
  else none)
theorem mX0_duty {l : Launch} {D : gD} {K : gK} (hl : l.stackTraces = false) : ∀ (p0 : Option Nat) (p1 : Int32) (p2 : Option Nat) (S : gS) (r : Int32) (S1 : gS), fX0_duty p0 p1 p2 S = some (r, S1) → gMet l D K yX0_duty (wsW_ yX0_duty cX0_duty 4 (Option.some Jvm.ClassFile.FieldType.int) [(0, 9, 12, 31)]) 608 28861 [va_rf p0, .int p1, va_rf p2] S (.inl (some (.int r))) S1 := by
  intro p0 p1 p2 S r S1 hF
  unfold fX0_duty at hF
  refine gMet.ofH hl (by decide +kernel) rfl (gle (lgs_r (lgs_i (lgs_r lgs_0))) (by decide)) (fun p e s m below meth c R hRf hRl C _ => ?_)
  generalize hargs : ([va_rf p0, .int p1, va_rf p2] : List Value).toArray = args at C ⊢
  generalize hu0 : S.2.2.1 = u0 at C ⊢
  rw [show lv_args 0 [va_rf p0, .int p1, va_rf p2] = [(0, va_rf p0), (1, .int p1), (2, va_rf p2)] from (lva_r rfl (lva_i rfl (lva_r rfl lva_0)))]
  refine g_aload_n C 2 dX0_duty_0 rfl ?_
  refine g_iconst (v := (0 : Int32)) C dX0_duty_1 rfl ?_
  refine g_aload_n C 0 dX0_duty_2 rfl ?_
  refine g_iload_n C 1 dX0_duty_3 rfl ?_
  rcases gC_cases hF with ⟨x1, S2, h, hF⟩ | ⟨xx, S2, h, hF⟩
  · obtain ⟨hi, h⟩ := gV_some h
    refine g_after (g_runV (n := 1) C dX0_duty_4 rfl hi (mX1_duty C.2.2.2.2.2.2.2.2.2.2.2.1 p0 p1 S _ _ h) (lw_V q1858 q1859 q1860 q99 q1861) (by decide +kernel) ⟨by rw [hRf]; exact Nat.le_of_ble_eq_true rfl, by rw [hRl]; exact Nat.le_of_ble_eq_true rfl⟩ rfl rfl (gle (gc_i (gc_r gc_0)) (by decide))) ?_
    refine g_i2l C dX0_duty_7 ?_
    refine g_last C dX0_duty_8 hF (fun S3 hF => ?_)
    refine g_goto C 15 dX0_duty_9 rfl ?_
    refine g_iconst (v := (0 : Int32)) C dX0_duty_15 rfl ?_
    cases hF
    exact g_iret C dX0_duty_16 rfl rfl
  · obtain ⟨cx, q4⟩ := xx
    refine g_caseN hF (fun e hF => ?_) (fun e hF => ?_)
    · subst e
      obtain ⟨hi, h⟩ := gV_some h
      refine g_afterT (g_runV (n := 1) C dX0_duty_4 rfl hi (mX1_duty C.2.2.2.2.2.2.2.2.2.2.2.1 p0 p1 S _ _ h) (lw_V q1858 q1859 q1860 q99 q1861) (by decide +kernel) ⟨by rw [hRf]; exact Nat.le_of_ble_eq_true rfl, by rw [hRl]; exact Nat.le_of_ble_eq_true rfl⟩ rfl rfl (gle (gc_i (gc_r gc_0)) (by decide))) ?_
      refine g_catch C 0 rfl rfl rfl (by decide) rfl q1736 q1751 ?_
      refine g_astore_n C dX0_duty_12 (by decide) (gcons rfl (gfk rfl rfl (gfk rfl rfl (gfr rfl gf0)))) ?_
      refine g_iconst (v := (1 : Int32)) C dX0_duty_13 rfl ?_
      cases hF
      exact g_iret C dX0_duty_14 rfl rfl
    cases hF
/-! VowelChoirLaw.range(LVowelChoir;I[J)I -/
def fX0_range (p0 : Option Nat) (p1 : Int32) (p2 : Option Nat) (S : gS) : Option (Int32 × gS) :=
  gC (gV [0] p0 S (fX1_range p0 p1 S)) (fun x1 S2 =>
  (oStL p2 (0 : Int32) x1.toInt64 S2).bind fun S3 =>
  some ((0 : Int32), S3)) (fun cx q4 S2 => if cx = 32 then
  some ((1 : Int32), S2)
  else none)
theorem mX0_range {l : Launch} {D : gD} {K : gK} (hl : l.stackTraces = false) : ∀ (p0 : Option Nat) (p1 : Int32) (p2 : Option Nat) (S : gS) (r : Int32) (S1 : gS), fX0_range p0 p1 p2 S = some (r, S1) → gMet l D K yX0_range (wsW_ yX0_range cX0_range 4 (Option.some Jvm.ClassFile.FieldType.int) [(0, 9, 12, 31)]) 609 28884 [va_rf p0, .int p1, va_rf p2] S (.inl (some (.int r))) S1 := by
  intro p0 p1 p2 S r S1 hF
  unfold fX0_range at hF
  refine gMet.ofH hl (by decide +kernel) rfl (gle (lgs_r (lgs_i (lgs_r lgs_0))) (by decide)) (fun p e s m below meth c R hRf hRl C _ => ?_)
  generalize hargs : ([va_rf p0, .int p1, va_rf p2] : List Value).toArray = args at C ⊢
  generalize hu0 : S.2.2.1 = u0 at C ⊢
  rw [show lv_args 0 [va_rf p0, .int p1, va_rf p2] = [(0, va_rf p0), (1, .int p1), (2, va_rf p2)] from (lva_r rfl (lva_i rfl (lva_r rfl lva_0)))]
  refine g_aload_n C 2 dX0_range_0 rfl ?_
  refine g_iconst (v := (0 : Int32)) C dX0_range_1 rfl ?_
  refine g_aload_n C 0 dX0_range_2 rfl ?_
  refine g_iload_n C 1 dX0_range_3 rfl ?_
  rcases gC_cases hF with ⟨x1, S2, h, hF⟩ | ⟨xx, S2, h, hF⟩
  · obtain ⟨hi, h⟩ := gV_some h
    refine g_after (g_runV (n := 1) C dX0_range_4 rfl hi (mX1_range C.2.2.2.2.2.2.2.2.2.2.2.1 p0 p1 S _ _ h) (lw_V q1866 q1867 q1868 q99 q1869) (by decide +kernel) ⟨by rw [hRf]; exact Nat.le_of_ble_eq_true rfl, by rw [hRl]; exact Nat.le_of_ble_eq_true rfl⟩ rfl rfl (gle (gc_i (gc_r gc_0)) (by decide))) ?_
    refine g_i2l C dX0_range_7 ?_
    refine g_last C dX0_range_8 hF (fun S3 hF => ?_)
    refine g_goto C 15 dX0_range_9 rfl ?_
    refine g_iconst (v := (0 : Int32)) C dX0_range_15 rfl ?_
    cases hF
    exact g_iret C dX0_range_16 rfl rfl
  · obtain ⟨cx, q4⟩ := xx
    refine g_caseN hF (fun e hF => ?_) (fun e hF => ?_)
    · subst e
      obtain ⟨hi, h⟩ := gV_some h
      refine g_afterT (g_runV (n := 1) C dX0_range_4 rfl hi (mX1_range C.2.2.2.2.2.2.2.2.2.2.2.1 p0 p1 S _ _ h) (lw_V q1866 q1867 q1868 q99 q1869) (by decide +kernel) ⟨by rw [hRf]; exact Nat.le_of_ble_eq_true rfl, by rw [hRl]; exact Nat.le_of_ble_eq_true rfl⟩ rfl rfl (gle (gc_i (gc_r gc_0)) (by decide))) ?_
      refine g_catch C 0 rfl rfl rfl (by decide) rfl q1736 q1751 ?_
      refine g_astore_n C dX0_range_12 (by decide) (gcons rfl (gfk rfl rfl (gfk rfl rfl (gfr rfl gf0)))) ?_
      refine g_iconst (v := (1 : Int32)) C dX0_range_13 rfl ?_
      cases hF
      exact g_iret C dX0_range_14 rfl rfl
    cases hF
/-! VowelChoirLaw.quarrel(LVowelChoir;III[J)I -/
def fX0_quarrel (p0 : Option Nat) (p1 : Int32) (p2 : Int32) (p3 : Int32) (p4 : Option Nat) (S : gS) : Option (Int32 × gS) :=
  gC (gV [0] p0 S (fX1_quarrel p0 p1 p2 p3 S)) (fun x1 S2 =>
  (oStL p4 (0 : Int32) x1.toInt64 S2).bind fun S3 =>
  some ((0 : Int32), S3)) (fun cx q4 S2 => if cx = 31 then
  some ((1 : Int32), S2)
  else none)
theorem mX0_quarrel {l : Launch} {D : gD} {K : gK} (hl : l.stackTraces = false) : ∀ (p0 : Option Nat) (p1 : Int32) (p2 : Int32) (p3 : Int32) (p4 : Option Nat) (S : gS) (r : Int32) (S1 : gS), fX0_quarrel p0 p1 p2 p3 p4 S = some (r, S1) → gMet l D K yX0_quarrel (wsW_ yX0_quarrel cX0_quarrel 6 (Option.some Jvm.ClassFile.FieldType.int) [(0, 12, 15, 13)]) 9 150 [va_rf p0, .int p1, .int p2, .int p3, va_rf p4] S (.inl (some (.int r))) S1 := by
  intro p0 p1 p2 p3 p4 S r S1 hF
  unfold fX0_quarrel at hF
  refine gMet.ofH hl (by decide +kernel) rfl (gle (lgs_r (lgs_i (lgs_i (lgs_i (lgs_r lgs_0))))) (by decide)) (fun p e s m below meth c R hRf hRl C _ => ?_)
  generalize hargs : ([va_rf p0, .int p1, .int p2, .int p3, va_rf p4] : List Value).toArray = args at C ⊢
  generalize hu0 : S.2.2.1 = u0 at C ⊢
  rw [show lv_args 0 [va_rf p0, .int p1, .int p2, .int p3, va_rf p4] = [(0, va_rf p0), (1, .int p1), (2, .int p2), (3, .int p3), (4, va_rf p4)] from (lva_r rfl (lva_i rfl (lva_i rfl (lva_i rfl (lva_r rfl lva_0)))))]
  refine g_aload C 4 dX0_quarrel_0 rfl ?_
  refine g_iconst (v := (0 : Int32)) C dX0_quarrel_2 rfl ?_
  refine g_aload_n C 0 dX0_quarrel_3 rfl ?_
  refine g_iload_n C 1 dX0_quarrel_4 rfl ?_
  refine g_iload_n C 2 dX0_quarrel_5 rfl ?_
  refine g_iload_n C 3 dX0_quarrel_6 rfl ?_
  rcases gC_cases hF with ⟨x1, S2, h, hF⟩ | ⟨xx, S2, h, hF⟩
  · obtain ⟨hi, h⟩ := gV_some h
    refine g_after (g_runV (n := 3) C dX0_quarrel_7 rfl hi (mX1_quarrel C.2.2.2.2.2.2.2.2.2.2.2.1 p0 p1 p2 p3 S _ _ h) (lw_V q1873 q1874 q1875 q99 q1876) (by decide +kernel) ⟨by rw [hRf]; exact Nat.le_of_ble_eq_true rfl, by rw [hRl]; exact Nat.le_of_ble_eq_true rfl⟩ rfl rfl (gle (gc_i (gc_r gc_0)) (by decide))) ?_
    refine g_i2l C dX0_quarrel_10 ?_
    refine g_last C dX0_quarrel_11 hF (fun S3 hF => ?_)
    refine g_goto C 19 dX0_quarrel_12 rfl ?_
    refine g_iconst (v := (0 : Int32)) C dX0_quarrel_19 rfl ?_
    cases hF
    exact g_iret C dX0_quarrel_20 rfl rfl
  · obtain ⟨cx, q4⟩ := xx
    refine g_caseN hF (fun e hF => ?_) (fun e hF => ?_)
    · subst e
      obtain ⟨hi, h⟩ := gV_some h
      refine g_afterT (g_runV (n := 3) C dX0_quarrel_7 rfl hi (mX1_quarrel C.2.2.2.2.2.2.2.2.2.2.2.1 p0 p1 p2 p3 S _ _ h) (lw_V q1873 q1874 q1875 q99 q1876) (by decide +kernel) ⟨by rw [hRf]; exact Nat.le_of_ble_eq_true rfl, by rw [hRl]; exact Nat.le_of_ble_eq_true rfl⟩ rfl rfl (gle (gc_i (gc_r gc_0)) (by decide))) ?_
      refine g_catch C 0 rfl rfl rfl (by decide) rfl q915 q185 ?_
      refine g_astore C dX0_quarrel_15 (by decide) (gcons rfl (gfk rfl rfl (gfk rfl rfl (gfk rfl rfl (gfk rfl rfl (gfr rfl gf0)))))) ?_
      refine g_iconst (v := (1 : Int32)) C dX0_quarrel_17 rfl ?_
      cases hF
      exact g_iret C dX0_quarrel_18 rfl rfl
    cases hF
/-! VowelChoirLaw.enough(LVowelChoir;IIII[J)I -/
def fX0_enough (p0 : Option Nat) (p1 : Int32) (p2 : Int32) (p3 : Int32) (p4 : Int32) (p5 : Option Nat) (S : gS) : Option (Int32 × gS) :=
  gC (gV [0] p0 S (fX1_enough p0 p1 p2 p3 p4 S)) (fun x1 S2 =>
  (oStL p5 (0 : Int32) x1 S2).bind fun S3 =>
  some ((0 : Int32), S3)) (fun cx q4 S2 => if cx = 31 then
  some ((1 : Int32), S2)
  else none)
theorem mX0_enough {l : Launch} {D : gD} {K : gK} (hl : l.stackTraces = false) : ∀ (p0 : Option Nat) (p1 : Int32) (p2 : Int32) (p3 : Int32) (p4 : Int32) (p5 : Option Nat) (S : gS) (r : Int32) (S1 : gS), fX0_enough p0 p1 p2 p3 p4 p5 S = some (r, S1) → gMet l D K yX0_enough (wsW_ yX0_enough cX0_enough 7 (Option.some Jvm.ClassFile.FieldType.int) [(0, 13, 16, 13)]) 9 159 [va_rf p0, .int p1, .int p2, .int p3, .int p4, va_rf p5] S (.inl (some (.int r))) S1 := by
  intro p0 p1 p2 p3 p4 p5 S r S1 hF
  unfold fX0_enough at hF
  refine gMet.ofH hl (by decide +kernel) rfl (gle (lgs_r (lgs_i (lgs_i (lgs_i (lgs_i (lgs_r lgs_0)))))) (by decide)) (fun p e s m below meth c R hRf hRl C _ => ?_)
  generalize hargs : ([va_rf p0, .int p1, .int p2, .int p3, .int p4, va_rf p5] : List Value).toArray = args at C ⊢
  generalize hu0 : S.2.2.1 = u0 at C ⊢
  rw [show lv_args 0 [va_rf p0, .int p1, .int p2, .int p3, .int p4, va_rf p5] = [(0, va_rf p0), (1, .int p1), (2, .int p2), (3, .int p3), (4, .int p4), (5, va_rf p5)] from (lva_r rfl (lva_i rfl (lva_i rfl (lva_i rfl (lva_i rfl (lva_r rfl lva_0))))))]
  refine g_aload C 5 dX0_enough_0 rfl ?_
  refine g_iconst (v := (0 : Int32)) C dX0_enough_2 rfl ?_
  refine g_aload_n C 0 dX0_enough_3 rfl ?_
  refine g_iload_n C 1 dX0_enough_4 rfl ?_
  refine g_iload_n C 2 dX0_enough_5 rfl ?_
  refine g_iload_n C 3 dX0_enough_6 rfl ?_
  refine g_iload C 4 dX0_enough_7 rfl ?_
  rcases gC_cases hF with ⟨x1, S2, h, hF⟩ | ⟨xx, S2, h, hF⟩
  · obtain ⟨hi, h⟩ := gV_some h
    refine g_after (g_runV (n := 4) C dX0_enough_9 rfl hi (mX1_enough C.2.2.2.2.2.2.2.2.2.2.2.1 p0 p1 p2 p3 p4 S _ _ h) (lw_V q1883 q1884 q1885 q99 q1886) (by decide +kernel) ⟨by rw [hRf]; exact Nat.le_of_ble_eq_true rfl, by rw [hRl]; exact Nat.le_of_ble_eq_true rfl⟩ rfl rfl (gle (gc_i (gc_r gc_0)) (by decide))) ?_
    refine g_last C dX0_enough_12 hF (fun S3 hF => ?_)
    refine g_goto C 20 dX0_enough_13 rfl ?_
    refine g_iconst (v := (0 : Int32)) C dX0_enough_20 rfl ?_
    cases hF
    exact g_iret C dX0_enough_21 rfl rfl
  · obtain ⟨cx, q4⟩ := xx
    refine g_caseN hF (fun e hF => ?_) (fun e hF => ?_)
    · subst e
      obtain ⟨hi, h⟩ := gV_some h
      refine g_afterT (g_runV (n := 4) C dX0_enough_9 rfl hi (mX1_enough C.2.2.2.2.2.2.2.2.2.2.2.1 p0 p1 p2 p3 p4 S _ _ h) (lw_V q1883 q1884 q1885 q99 q1886) (by decide +kernel) ⟨by rw [hRf]; exact Nat.le_of_ble_eq_true rfl, by rw [hRl]; exact Nat.le_of_ble_eq_true rfl⟩ rfl rfl (gle (gc_i (gc_r gc_0)) (by decide))) ?_
      refine g_catch C 0 rfl rfl rfl (by decide) rfl q915 q185 ?_
      refine g_astore C dX0_enough_16 (by decide) (gcons rfl (gfk rfl rfl (gfk rfl rfl (gfk rfl rfl (gfk rfl rfl (gfk rfl rfl (gfr rfl gf0))))))) ?_
      refine g_iconst (v := (1 : Int32)) C dX0_enough_18 rfl ?_
      cases hF
      exact g_iret C dX0_enough_19 rfl rfl
    cases hF
/-! VowelChoirLaw.rent(LVowelChoir;III[J)I -/
def fX0_rent (p0 : Option Nat) (p1 : Int32) (p2 : Int32) (p3 : Int32) (p4 : Option Nat) (S : gS) : Option (Int32 × gS) :=
  gC (gV [0] p0 S (fX1_rent p0 p1 p2 p3 S)) (fun x1 S2 =>
  (oStL p4 (0 : Int32) x1.toInt64 S2).bind fun S3 =>
  some ((0 : Int32), S3)) (fun cx q4 S2 => if cx = 32 then
  some ((1 : Int32), S2)
  else if cx = 31 then
  some ((2 : Int32), S2)
  else none)
theorem mX0_rent {l : Launch} {D : gD} {K : gK} (hl : l.stackTraces = false) : ∀ (p0 : Option Nat) (p1 : Int32) (p2 : Int32) (p3 : Int32) (p4 : Option Nat) (S : gS) (r : Int32) (S1 : gS), fX0_rent p0 p1 p2 p3 p4 S = some (r, S1) → gMet l D K yX0_rent (wsW_ yX0_rent cX0_rent 6 (Option.some Jvm.ClassFile.FieldType.int) [(0, 12, 15, 31), (0, 12, 19, 13)]) 10 233 [va_rf p0, .int p1, .int p2, .int p3, va_rf p4] S (.inl (some (.int r))) S1 := by
  intro p0 p1 p2 p3 p4 S r S1 hF
  unfold fX0_rent at hF
  refine gMet.ofH hl (by decide +kernel) rfl (gle (lgs_r (lgs_i (lgs_i (lgs_i (lgs_r lgs_0))))) (by decide)) (fun p e s m below meth c R hRf hRl C _ => ?_)
  generalize hargs : ([va_rf p0, .int p1, .int p2, .int p3, va_rf p4] : List Value).toArray = args at C ⊢
  generalize hu0 : S.2.2.1 = u0 at C ⊢
  rw [show lv_args 0 [va_rf p0, .int p1, .int p2, .int p3, va_rf p4] = [(0, va_rf p0), (1, .int p1), (2, .int p2), (3, .int p3), (4, va_rf p4)] from (lva_r rfl (lva_i rfl (lva_i rfl (lva_i rfl (lva_r rfl lva_0)))))]
  refine g_aload C 4 dX0_rent_0 rfl ?_
  refine g_iconst (v := (0 : Int32)) C dX0_rent_2 rfl ?_
  refine g_aload_n C 0 dX0_rent_3 rfl ?_
  refine g_iload_n C 1 dX0_rent_4 rfl ?_
  refine g_iload_n C 2 dX0_rent_5 rfl ?_
  refine g_iload_n C 3 dX0_rent_6 rfl ?_
  rcases gC_cases hF with ⟨x1, S2, h, hF⟩ | ⟨xx, S2, h, hF⟩
  · obtain ⟨hi, h⟩ := gV_some h
    refine g_after (g_runV (n := 3) C dX0_rent_7 rfl hi (mX1_rent C.2.2.2.2.2.2.2.2.2.2.2.1 p0 p1 p2 p3 S _ _ h) (lw_V q1897 q1898 q1899 q99 q1900) (by decide +kernel) ⟨by rw [hRf]; exact Nat.le_of_ble_eq_true rfl, by rw [hRl]; exact Nat.le_of_ble_eq_true rfl⟩ rfl rfl (gle (gc_i (gc_r gc_0)) (by decide))) ?_
    refine g_i2l C dX0_rent_10 ?_
    refine g_last C dX0_rent_11 hF (fun S3 hF => ?_)
    refine g_goto C 23 dX0_rent_12 rfl ?_
    refine g_iconst (v := (0 : Int32)) C dX0_rent_23 rfl ?_
    cases hF
    exact g_iret C dX0_rent_24 rfl rfl
  · obtain ⟨cx, q4⟩ := xx
    refine g_caseN hF (fun e hF => ?_) (fun e hF => ?_)
    · subst e
      obtain ⟨hi, h⟩ := gV_some h
      refine g_afterT (g_runV (n := 3) C dX0_rent_7 rfl hi (mX1_rent C.2.2.2.2.2.2.2.2.2.2.2.1 p0 p1 p2 p3 S _ _ h) (lw_V q1897 q1898 q1899 q99 q1900) (by decide +kernel) ⟨by rw [hRf]; exact Nat.le_of_ble_eq_true rfl, by rw [hRl]; exact Nat.le_of_ble_eq_true rfl⟩ rfl rfl (gle (gc_i (gc_r gc_0)) (by decide))) ?_
      refine g_catch C 0 rfl rfl rfl (by decide) rfl q1736 q1751 ?_
      refine g_astore C dX0_rent_15 (by decide) (gcons rfl (gfk rfl rfl (gfk rfl rfl (gfk rfl rfl (gfk rfl rfl (gfr rfl gf0)))))) ?_
      refine g_iconst (v := (1 : Int32)) C dX0_rent_17 rfl ?_
      cases hF
      exact g_iret C dX0_rent_18 rfl rfl
    refine g_caseN hF (fun e hF => ?_) (fun e hF => ?_)
    · subst e
      obtain ⟨hi, h⟩ := gV_some h
      refine g_afterT (g_runV (n := 3) C dX0_rent_7 rfl hi (mX1_rent C.2.2.2.2.2.2.2.2.2.2.2.1 p0 p1 p2 p3 S _ _ h) (lw_V q1897 q1898 q1899 q99 q1900) (by decide +kernel) ⟨by rw [hRf]; exact Nat.le_of_ble_eq_true rfl, by rw [hRl]; exact Nat.le_of_ble_eq_true rfl⟩ rfl rfl (gle (gc_i (gc_r gc_0)) (by decide))) ?_
      refine g_catchN C rfl rfl rfl (by decide) (by decide) rfl q1736 q915 q185 ?_
      refine g_astore C dX0_rent_19 (by decide) (gcons rfl (gfk rfl rfl (gfk rfl rfl (gfk rfl rfl (gfk rfl rfl (gfr rfl gf0)))))) ?_
      refine g_iconst (v := (2 : Int32)) C dX0_rent_21 rfl ?_
      cases hF
      exact g_iret C dX0_rent_22 rfl rfl
    cases hF
/-! VowelChoirLaw.dearest(LVowelChoir;I[J)I -/
def fX0_dearest (p0 : Option Nat) (p1 : Int32) (p2 : Option Nat) (S : gS) : Option (Int32 × gS) :=
  gC (gV [0] p0 S (fX1_dearest p0 p1 S)) (fun x1 S2 =>
  (oStL p2 (0 : Int32) x1.toInt64 S2).bind fun S3 =>
  some ((0 : Int32), S3)) (fun cx q4 S2 => if cx = 31 then
  some ((1 : Int32), S2)
  else none)
theorem mX0_dearest {l : Launch} {D : gD} {K : gK} (hl : l.stackTraces = false) : ∀ (p0 : Option Nat) (p1 : Int32) (p2 : Option Nat) (S : gS) (r : Int32) (S1 : gS), fX0_dearest p0 p1 p2 S = some (r, S1) → gMet l D K yX0_dearest (wsW_ yX0_dearest cX0_dearest 4 (Option.some Jvm.ClassFile.FieldType.int) [(0, 9, 12, 13)]) 9 208 [va_rf p0, .int p1, va_rf p2] S (.inl (some (.int r))) S1 := by
  intro p0 p1 p2 S r S1 hF
  unfold fX0_dearest at hF
  refine gMet.ofH hl (by decide +kernel) rfl (gle (lgs_r (lgs_i (lgs_r lgs_0))) (by decide)) (fun p e s m below meth c R hRf hRl C _ => ?_)
  generalize hargs : ([va_rf p0, .int p1, va_rf p2] : List Value).toArray = args at C ⊢
  generalize hu0 : S.2.2.1 = u0 at C ⊢
  rw [show lv_args 0 [va_rf p0, .int p1, va_rf p2] = [(0, va_rf p0), (1, .int p1), (2, va_rf p2)] from (lva_r rfl (lva_i rfl (lva_r rfl lva_0)))]
  refine g_aload_n C 2 dX0_dearest_0 rfl ?_
  refine g_iconst (v := (0 : Int32)) C dX0_dearest_1 rfl ?_
  refine g_aload_n C 0 dX0_dearest_2 rfl ?_
  refine g_iload_n C 1 dX0_dearest_3 rfl ?_
  rcases gC_cases hF with ⟨x1, S2, h, hF⟩ | ⟨xx, S2, h, hF⟩
  · obtain ⟨hi, h⟩ := gV_some h
    refine g_after (g_runV (n := 1) C dX0_dearest_4 rfl hi (mX1_dearest C.2.2.2.2.2.2.2.2.2.2.2.1 p0 p1 S _ _ h) (lw_V q1908 q1909 q1910 q99 q1911) (by decide +kernel) ⟨by rw [hRf]; exact Nat.le_of_ble_eq_true rfl, by rw [hRl]; exact Nat.le_of_ble_eq_true rfl⟩ rfl rfl (gle (gc_i (gc_r gc_0)) (by decide))) ?_
    refine g_i2l C dX0_dearest_7 ?_
    refine g_last C dX0_dearest_8 hF (fun S3 hF => ?_)
    refine g_goto C 15 dX0_dearest_9 rfl ?_
    refine g_iconst (v := (0 : Int32)) C dX0_dearest_15 rfl ?_
    cases hF
    exact g_iret C dX0_dearest_16 rfl rfl
  · obtain ⟨cx, q4⟩ := xx
    refine g_caseN hF (fun e hF => ?_) (fun e hF => ?_)
    · subst e
      obtain ⟨hi, h⟩ := gV_some h
      refine g_afterT (g_runV (n := 1) C dX0_dearest_4 rfl hi (mX1_dearest C.2.2.2.2.2.2.2.2.2.2.2.1 p0 p1 S _ _ h) (lw_V q1908 q1909 q1910 q99 q1911) (by decide +kernel) ⟨by rw [hRf]; exact Nat.le_of_ble_eq_true rfl, by rw [hRl]; exact Nat.le_of_ble_eq_true rfl⟩ rfl rfl (gle (gc_i (gc_r gc_0)) (by decide))) ?_
      refine g_catch C 0 rfl rfl rfl (by decide) rfl q915 q185 ?_
      refine g_astore_n C dX0_dearest_12 (by decide) (gcons rfl (gfk rfl rfl (gfk rfl rfl (gfr rfl gf0)))) ?_
      refine g_iconst (v := (1 : Int32)) C dX0_dearest_13 rfl ?_
      cases hF
      exact g_iret C dX0_dearest_14 rfl rfl
    cases hF
/-! VowelChoirLaw.voices(LVowelChoir;I[J)I -/
def fX0_voices (p0 : Option Nat) (p1 : Int32) (p2 : Option Nat) (S : gS) : Option (Int32 × gS) :=
  gC (gV [0] p0 S (fX1_voices p0 p1 S)) (fun x1 S2 =>
  (oStL p2 (0 : Int32) x1.toInt64 S2).bind fun S3 =>
  some ((0 : Int32), S3)) (fun cx q4 S2 => if cx = 31 then
  some ((1 : Int32), S2)
  else none)
theorem mX0_voices {l : Launch} {D : gD} {K : gK} (hl : l.stackTraces = false) : ∀ (p0 : Option Nat) (p1 : Int32) (p2 : Option Nat) (S : gS) (r : Int32) (S1 : gS), fX0_voices p0 p1 p2 S = some (r, S1) → gMet l D K yX0_voices (wsW_ yX0_voices cX0_voices 4 (Option.some Jvm.ClassFile.FieldType.int) [(0, 9, 12, 13)]) 9 208 [va_rf p0, .int p1, va_rf p2] S (.inl (some (.int r))) S1 := by
  intro p0 p1 p2 S r S1 hF
  unfold fX0_voices at hF
  refine gMet.ofH hl (by decide +kernel) rfl (gle (lgs_r (lgs_i (lgs_r lgs_0))) (by decide)) (fun p e s m below meth c R hRf hRl C _ => ?_)
  generalize hargs : ([va_rf p0, .int p1, va_rf p2] : List Value).toArray = args at C ⊢
  generalize hu0 : S.2.2.1 = u0 at C ⊢
  rw [show lv_args 0 [va_rf p0, .int p1, va_rf p2] = [(0, va_rf p0), (1, .int p1), (2, va_rf p2)] from (lva_r rfl (lva_i rfl (lva_r rfl lva_0)))]
  refine g_aload_n C 2 dX0_voices_0 rfl ?_
  refine g_iconst (v := (0 : Int32)) C dX0_voices_1 rfl ?_
  refine g_aload_n C 0 dX0_voices_2 rfl ?_
  refine g_iload_n C 1 dX0_voices_3 rfl ?_
  rcases gC_cases hF with ⟨x1, S2, h, hF⟩ | ⟨xx, S2, h, hF⟩
  · obtain ⟨hi, h⟩ := gV_some h
    refine g_after (g_runV (n := 1) C dX0_voices_4 rfl hi (mX1_voices C.2.2.2.2.2.2.2.2.2.2.2.1 p0 p1 S _ _ h) (lw_V q1915 q1916 q1917 q99 q1918) (by decide +kernel) ⟨by rw [hRf]; exact Nat.le_of_ble_eq_true rfl, by rw [hRl]; exact Nat.le_of_ble_eq_true rfl⟩ rfl rfl (gle (gc_i (gc_r gc_0)) (by decide))) ?_
    refine g_i2l C dX0_voices_7 ?_
    refine g_last C dX0_voices_8 hF (fun S3 hF => ?_)
    refine g_goto C 15 dX0_voices_9 rfl ?_
    refine g_iconst (v := (0 : Int32)) C dX0_voices_15 rfl ?_
    cases hF
    exact g_iret C dX0_voices_16 rfl rfl
  · obtain ⟨cx, q4⟩ := xx
    refine g_caseN hF (fun e hF => ?_) (fun e hF => ?_)
    · subst e
      obtain ⟨hi, h⟩ := gV_some h
      refine g_afterT (g_runV (n := 1) C dX0_voices_4 rfl hi (mX1_voices C.2.2.2.2.2.2.2.2.2.2.2.1 p0 p1 S _ _ h) (lw_V q1915 q1916 q1917 q99 q1918) (by decide +kernel) ⟨by rw [hRf]; exact Nat.le_of_ble_eq_true rfl, by rw [hRl]; exact Nat.le_of_ble_eq_true rfl⟩ rfl rfl (gle (gc_i (gc_r gc_0)) (by decide))) ?_
      refine g_catch C 0 rfl rfl rfl (by decide) rfl q915 q185 ?_
      refine g_astore_n C dX0_voices_12 (by decide) (gcons rfl (gfk rfl rfl (gfk rfl rfl (gfr rfl gf0)))) ?_
      refine g_iconst (v := (1 : Int32)) C dX0_voices_13 rfl ?_
      cases hF
      exact g_iret C dX0_voices_14 rfl rfl
    cases hF
/-! VowelChoirLaw.sounds(LVowelChoir;I[J)I -/
def fX0_sounds (p0 : Option Nat) (p1 : Int32) (p2 : Option Nat) (S : gS) : Option (Int32 × gS) :=
  gC (gV [0] p0 S (fX1_sounds p0 p1 S)) (fun x1 S2 =>
  (oStL p2 (0 : Int32) x1.toInt64 S2).bind fun S3 =>
  some ((0 : Int32), S3)) (fun cx q4 S2 => if cx = 31 then
  some ((1 : Int32), S2)
  else none)
theorem mX0_sounds {l : Launch} {D : gD} {K : gK} (hl : l.stackTraces = false) : ∀ (p0 : Option Nat) (p1 : Int32) (p2 : Option Nat) (S : gS) (r : Int32) (S1 : gS), fX0_sounds p0 p1 p2 S = some (r, S1) → gMet l D K yX0_sounds (wsW_ yX0_sounds cX0_sounds 4 (Option.some Jvm.ClassFile.FieldType.int) [(0, 9, 12, 13)]) 9 184 [va_rf p0, .int p1, va_rf p2] S (.inl (some (.int r))) S1 := by
  intro p0 p1 p2 S r S1 hF
  unfold fX0_sounds at hF
  refine gMet.ofH hl (by decide +kernel) rfl (gle (lgs_r (lgs_i (lgs_r lgs_0))) (by decide)) (fun p e s m below meth c R hRf hRl C _ => ?_)
  generalize hargs : ([va_rf p0, .int p1, va_rf p2] : List Value).toArray = args at C ⊢
  generalize hu0 : S.2.2.1 = u0 at C ⊢
  rw [show lv_args 0 [va_rf p0, .int p1, va_rf p2] = [(0, va_rf p0), (1, .int p1), (2, va_rf p2)] from (lva_r rfl (lva_i rfl (lva_r rfl lva_0)))]
  refine g_aload_n C 2 dX0_sounds_0 rfl ?_
  refine g_iconst (v := (0 : Int32)) C dX0_sounds_1 rfl ?_
  refine g_aload_n C 0 dX0_sounds_2 rfl ?_
  refine g_iload_n C 1 dX0_sounds_3 rfl ?_
  rcases gC_cases hF with ⟨x1, S2, h, hF⟩ | ⟨xx, S2, h, hF⟩
  · obtain ⟨hi, h⟩ := gV_some h
    refine g_after (g_runV (n := 1) C dX0_sounds_4 rfl hi (mX1_sounds C.2.2.2.2.2.2.2.2.2.2.2.1 p0 p1 S _ _ h) (lw_V q1922 q1923 q1924 q99 q1925) (by decide +kernel) ⟨by rw [hRf]; exact Nat.le_of_ble_eq_true rfl, by rw [hRl]; exact Nat.le_of_ble_eq_true rfl⟩ rfl rfl (gle (gc_i (gc_r gc_0)) (by decide))) ?_
    refine g_i2l C dX0_sounds_7 ?_
    refine g_last C dX0_sounds_8 hF (fun S3 hF => ?_)
    refine g_goto C 15 dX0_sounds_9 rfl ?_
    refine g_iconst (v := (0 : Int32)) C dX0_sounds_15 rfl ?_
    cases hF
    exact g_iret C dX0_sounds_16 rfl rfl
  · obtain ⟨cx, q4⟩ := xx
    refine g_caseN hF (fun e hF => ?_) (fun e hF => ?_)
    · subst e
      obtain ⟨hi, h⟩ := gV_some h
      refine g_afterT (g_runV (n := 1) C dX0_sounds_4 rfl hi (mX1_sounds C.2.2.2.2.2.2.2.2.2.2.2.1 p0 p1 S _ _ h) (lw_V q1922 q1923 q1924 q99 q1925) (by decide +kernel) ⟨by rw [hRf]; exact Nat.le_of_ble_eq_true rfl, by rw [hRl]; exact Nat.le_of_ble_eq_true rfl⟩ rfl rfl (gle (gc_i (gc_r gc_0)) (by decide))) ?_
      refine g_catch C 0 rfl rfl rfl (by decide) rfl q915 q185 ?_
      refine g_astore_n C dX0_sounds_12 (by decide) (gcons rfl (gfk rfl rfl (gfk rfl rfl (gfr rfl gf0)))) ?_
      refine g_iconst (v := (1 : Int32)) C dX0_sounds_13 rfl ?_
      cases hF
      exact g_iret C dX0_sounds_14 rfl rfl
    cases hF
/-! VowelChoirLaw.beats(LVowelChoir;I[J)I -/
def fX0_beats (p0 : Option Nat) (p1 : Int32) (p2 : Option Nat) (S : gS) : Option (Int32 × gS) :=
  gC (gV [0] p0 S (fX1_beats p0 p1 S)) (fun x1 S2 =>
  (oStL p2 (0 : Int32) x1.toInt64 S2).bind fun S3 =>
  some ((0 : Int32), S3)) (fun cx q4 S2 => if cx = 31 then
  some ((1 : Int32), S2)
  else none)
theorem mX0_beats {l : Launch} {D : gD} {K : gK} (hl : l.stackTraces = false) : ∀ (p0 : Option Nat) (p1 : Int32) (p2 : Option Nat) (S : gS) (r : Int32) (S1 : gS), fX0_beats p0 p1 p2 S = some (r, S1) → gMet l D K yX0_beats (wsW_ yX0_beats cX0_beats 4 (Option.some Jvm.ClassFile.FieldType.int) [(0, 9, 12, 13)]) 9 208 [va_rf p0, .int p1, va_rf p2] S (.inl (some (.int r))) S1 := by
  intro p0 p1 p2 S r S1 hF
  unfold fX0_beats at hF
  refine gMet.ofH hl (by decide +kernel) rfl (gle (lgs_r (lgs_i (lgs_r lgs_0))) (by decide)) (fun p e s m below meth c R hRf hRl C _ => ?_)
  generalize hargs : ([va_rf p0, .int p1, va_rf p2] : List Value).toArray = args at C ⊢
  generalize hu0 : S.2.2.1 = u0 at C ⊢
  rw [show lv_args 0 [va_rf p0, .int p1, va_rf p2] = [(0, va_rf p0), (1, .int p1), (2, va_rf p2)] from (lva_r rfl (lva_i rfl (lva_r rfl lva_0)))]
  refine g_aload_n C 2 dX0_beats_0 rfl ?_
  refine g_iconst (v := (0 : Int32)) C dX0_beats_1 rfl ?_
  refine g_aload_n C 0 dX0_beats_2 rfl ?_
  refine g_iload_n C 1 dX0_beats_3 rfl ?_
  rcases gC_cases hF with ⟨x1, S2, h, hF⟩ | ⟨xx, S2, h, hF⟩
  · obtain ⟨hi, h⟩ := gV_some h
    refine g_after (g_runV (n := 1) C dX0_beats_4 rfl hi (mX1_beats C.2.2.2.2.2.2.2.2.2.2.2.1 p0 p1 S _ _ h) (lw_V q1933 q1934 q1935 q99 q1936) (by decide +kernel) ⟨by rw [hRf]; exact Nat.le_of_ble_eq_true rfl, by rw [hRl]; exact Nat.le_of_ble_eq_true rfl⟩ rfl rfl (gle (gc_i (gc_r gc_0)) (by decide))) ?_
    refine g_i2l C dX0_beats_7 ?_
    refine g_last C dX0_beats_8 hF (fun S3 hF => ?_)
    refine g_goto C 15 dX0_beats_9 rfl ?_
    refine g_iconst (v := (0 : Int32)) C dX0_beats_15 rfl ?_
    cases hF
    exact g_iret C dX0_beats_16 rfl rfl
  · obtain ⟨cx, q4⟩ := xx
    refine g_caseN hF (fun e hF => ?_) (fun e hF => ?_)
    · subst e
      obtain ⟨hi, h⟩ := gV_some h
      refine g_afterT (g_runV (n := 1) C dX0_beats_4 rfl hi (mX1_beats C.2.2.2.2.2.2.2.2.2.2.2.1 p0 p1 S _ _ h) (lw_V q1933 q1934 q1935 q99 q1936) (by decide +kernel) ⟨by rw [hRf]; exact Nat.le_of_ble_eq_true rfl, by rw [hRl]; exact Nat.le_of_ble_eq_true rfl⟩ rfl rfl (gle (gc_i (gc_r gc_0)) (by decide))) ?_
      refine g_catch C 0 rfl rfl rfl (by decide) rfl q915 q185 ?_
      refine g_astore_n C dX0_beats_12 (by decide) (gcons rfl (gfk rfl rfl (gfk rfl rfl (gfr rfl gf0)))) ?_
      refine g_iconst (v := (1 : Int32)) C dX0_beats_13 rfl ?_
      cases hF
      exact g_iret C dX0_beats_14 rfl rfl
    cases hF
/-! VowelChoirLaw.words(LVowelChoir;I[J)I -/
def fX0_words (p0 : Option Nat) (p1 : Int32) (p2 : Option Nat) (S : gS) : Option (Int32 × gS) :=
  gC (gV [0] p0 S (fX1_words p0 p1 S)) (fun x1 S2 =>
  (oStL p2 (0 : Int32) x1.toInt64 S2).bind fun S3 =>
  some ((0 : Int32), S3)) (fun cx q4 S2 => if cx = 32 then
  some ((1 : Int32), S2)
  else none)
theorem mX0_words {l : Launch} {D : gD} {K : gK} (hl : l.stackTraces = false) : ∀ (p0 : Option Nat) (p1 : Int32) (p2 : Option Nat) (S : gS) (r : Int32) (S1 : gS), fX0_words p0 p1 p2 S = some (r, S1) → gMet l D K yX0_words (wsW_ yX0_words cX0_words 4 (Option.some Jvm.ClassFile.FieldType.int) [(0, 9, 12, 31)]) 10 229 [va_rf p0, .int p1, va_rf p2] S (.inl (some (.int r))) S1 := by
  intro p0 p1 p2 S r S1 hF
  unfold fX0_words at hF
  refine gMet.ofH hl (by decide +kernel) rfl (gle (lgs_r (lgs_i (lgs_r lgs_0))) (by decide)) (fun p e s m below meth c R hRf hRl C _ => ?_)
  generalize hargs : ([va_rf p0, .int p1, va_rf p2] : List Value).toArray = args at C ⊢
  generalize hu0 : S.2.2.1 = u0 at C ⊢
  rw [show lv_args 0 [va_rf p0, .int p1, va_rf p2] = [(0, va_rf p0), (1, .int p1), (2, va_rf p2)] from (lva_r rfl (lva_i rfl (lva_r rfl lva_0)))]
  refine g_aload_n C 2 dX0_words_0 rfl ?_
  refine g_iconst (v := (0 : Int32)) C dX0_words_1 rfl ?_
  refine g_aload_n C 0 dX0_words_2 rfl ?_
  refine g_iload_n C 1 dX0_words_3 rfl ?_
  rcases gC_cases hF with ⟨x1, S2, h, hF⟩ | ⟨xx, S2, h, hF⟩
  · obtain ⟨hi, h⟩ := gV_some h
    refine g_after (g_runV (n := 1) C dX0_words_4 rfl hi (mX1_words C.2.2.2.2.2.2.2.2.2.2.2.1 p0 p1 S _ _ h) (lw_V q1940 q1941 q1942 q99 q1943) (by decide +kernel) ⟨by rw [hRf]; exact Nat.le_of_ble_eq_true rfl, by rw [hRl]; exact Nat.le_of_ble_eq_true rfl⟩ rfl rfl (gle (gc_i (gc_r gc_0)) (by decide))) ?_
    refine g_i2l C dX0_words_7 ?_
    refine g_last C dX0_words_8 hF (fun S3 hF => ?_)
    refine g_goto C 15 dX0_words_9 rfl ?_
    refine g_iconst (v := (0 : Int32)) C dX0_words_15 rfl ?_
    cases hF
    exact g_iret C dX0_words_16 rfl rfl
  · obtain ⟨cx, q4⟩ := xx
    refine g_caseN hF (fun e hF => ?_) (fun e hF => ?_)
    · subst e
      obtain ⟨hi, h⟩ := gV_some h
      refine g_afterT (g_runV (n := 1) C dX0_words_4 rfl hi (mX1_words C.2.2.2.2.2.2.2.2.2.2.2.1 p0 p1 S _ _ h) (lw_V q1940 q1941 q1942 q99 q1943) (by decide +kernel) ⟨by rw [hRf]; exact Nat.le_of_ble_eq_true rfl, by rw [hRl]; exact Nat.le_of_ble_eq_true rfl⟩ rfl rfl (gle (gc_i (gc_r gc_0)) (by decide))) ?_
      refine g_catch C 0 rfl rfl rfl (by decide) rfl q1736 q1751 ?_
      refine g_astore_n C dX0_words_12 (by decide) (gcons rfl (gfk rfl rfl (gfk rfl rfl (gfr rfl gf0)))) ?_
      refine g_iconst (v := (1 : Int32)) C dX0_words_13 rfl ?_
      cases hF
      exact g_iret C dX0_words_14 rfl rfl
    cases hF
/-! VowelChoirLaw.alone(LVowelChoir;I[J)I -/
def fX0_alone (p0 : Option Nat) (p1 : Int32) (p2 : Option Nat) (S : gS) : Option (Int32 × gS) :=
  gC (gV [0] p0 S (fX1_alone p0 p1 S)) (fun x1 S2 =>
  (oStL p2 (0 : Int32) x1.toInt64 S2).bind fun S3 =>
  some ((0 : Int32), S3)) (fun cx q4 S2 => if cx = 31 then
  some ((1 : Int32), S2)
  else none)
theorem mX0_alone {l : Launch} {D : gD} {K : gK} (hl : l.stackTraces = false) : ∀ (p0 : Option Nat) (p1 : Int32) (p2 : Option Nat) (S : gS) (r : Int32) (S1 : gS), fX0_alone p0 p1 p2 S = some (r, S1) → gMet l D K yX0_alone (wsW_ yX0_alone cX0_alone 4 (Option.some Jvm.ClassFile.FieldType.int) [(0, 9, 12, 13)]) 10 230 [va_rf p0, .int p1, va_rf p2] S (.inl (some (.int r))) S1 := by
  intro p0 p1 p2 S r S1 hF
  unfold fX0_alone at hF
  refine gMet.ofH hl (by decide +kernel) rfl (gle (lgs_r (lgs_i (lgs_r lgs_0))) (by decide)) (fun p e s m below meth c R hRf hRl C _ => ?_)
  generalize hargs : ([va_rf p0, .int p1, va_rf p2] : List Value).toArray = args at C ⊢
  generalize hu0 : S.2.2.1 = u0 at C ⊢
  rw [show lv_args 0 [va_rf p0, .int p1, va_rf p2] = [(0, va_rf p0), (1, .int p1), (2, va_rf p2)] from (lva_r rfl (lva_i rfl (lva_r rfl lva_0)))]
  refine g_aload_n C 2 dX0_alone_0 rfl ?_
  refine g_iconst (v := (0 : Int32)) C dX0_alone_1 rfl ?_
  refine g_aload_n C 0 dX0_alone_2 rfl ?_
  refine g_iload_n C 1 dX0_alone_3 rfl ?_
  rcases gC_cases hF with ⟨x1, S2, h, hF⟩ | ⟨xx, S2, h, hF⟩
  · obtain ⟨hi, h⟩ := gV_some h
    refine g_after (g_runV (n := 1) C dX0_alone_4 rfl hi (mX1_alone C.2.2.2.2.2.2.2.2.2.2.2.1 p0 p1 S _ _ h) (lw_V q1947 q1948 q1949 q99 q1950) (by decide +kernel) ⟨by rw [hRf]; exact Nat.le_of_ble_eq_true rfl, by rw [hRl]; exact Nat.le_of_ble_eq_true rfl⟩ rfl rfl (gle (gc_i (gc_r gc_0)) (by decide))) ?_
    refine g_i2l C dX0_alone_7 ?_
    refine g_last C dX0_alone_8 hF (fun S3 hF => ?_)
    refine g_goto C 15 dX0_alone_9 rfl ?_
    refine g_iconst (v := (0 : Int32)) C dX0_alone_15 rfl ?_
    cases hF
    exact g_iret C dX0_alone_16 rfl rfl
  · obtain ⟨cx, q4⟩ := xx
    refine g_caseN hF (fun e hF => ?_) (fun e hF => ?_)
    · subst e
      obtain ⟨hi, h⟩ := gV_some h
      refine g_afterT (g_runV (n := 1) C dX0_alone_4 rfl hi (mX1_alone C.2.2.2.2.2.2.2.2.2.2.2.1 p0 p1 S _ _ h) (lw_V q1947 q1948 q1949 q99 q1950) (by decide +kernel) ⟨by rw [hRf]; exact Nat.le_of_ble_eq_true rfl, by rw [hRl]; exact Nat.le_of_ble_eq_true rfl⟩ rfl rfl (gle (gc_i (gc_r gc_0)) (by decide))) ?_
      refine g_catch C 0 rfl rfl rfl (by decide) rfl q915 q185 ?_
      refine g_astore_n C dX0_alone_12 (by decide) (gcons rfl (gfk rfl rfl (gfk rfl rfl (gfr rfl gf0)))) ?_
      refine g_iconst (v := (1 : Int32)) C dX0_alone_13 rfl ?_
      cases hF
      exact g_iret C dX0_alone_14 rfl rfl
    cases hF
/-! VowelChoirLaw.longest(LVowelChoir;I[J)I -/
def fX0_longest (p0 : Option Nat) (p1 : Int32) (p2 : Option Nat) (S : gS) : Option (Int32 × gS) :=
  gC (gV [0] p0 S (fX1_longest p0 p1 S)) (fun x1 S2 =>
  (oStL p2 (0 : Int32) x1.toInt64 S2).bind fun S3 =>
  some ((0 : Int32), S3)) (fun cx q4 S2 => if cx = 31 then
  some ((1 : Int32), S2)
  else none)
theorem mX0_longest {l : Launch} {D : gD} {K : gK} (hl : l.stackTraces = false) : ∀ (p0 : Option Nat) (p1 : Int32) (p2 : Option Nat) (S : gS) (r : Int32) (S1 : gS), fX0_longest p0 p1 p2 S = some (r, S1) → gMet l D K yX0_longest (wsW_ yX0_longest cX0_longest 4 (Option.some Jvm.ClassFile.FieldType.int) [(0, 9, 12, 13)]) 9 208 [va_rf p0, .int p1, va_rf p2] S (.inl (some (.int r))) S1 := by
  intro p0 p1 p2 S r S1 hF
  unfold fX0_longest at hF
  refine gMet.ofH hl (by decide +kernel) rfl (gle (lgs_r (lgs_i (lgs_r lgs_0))) (by decide)) (fun p e s m below meth c R hRf hRl C _ => ?_)
  generalize hargs : ([va_rf p0, .int p1, va_rf p2] : List Value).toArray = args at C ⊢
  generalize hu0 : S.2.2.1 = u0 at C ⊢
  rw [show lv_args 0 [va_rf p0, .int p1, va_rf p2] = [(0, va_rf p0), (1, .int p1), (2, va_rf p2)] from (lva_r rfl (lva_i rfl (lva_r rfl lva_0)))]
  refine g_aload_n C 2 dX0_longest_0 rfl ?_
  refine g_iconst (v := (0 : Int32)) C dX0_longest_1 rfl ?_
  refine g_aload_n C 0 dX0_longest_2 rfl ?_
  refine g_iload_n C 1 dX0_longest_3 rfl ?_
  rcases gC_cases hF with ⟨x1, S2, h, hF⟩ | ⟨xx, S2, h, hF⟩
  · obtain ⟨hi, h⟩ := gV_some h
    refine g_after (g_runV (n := 1) C dX0_longest_4 rfl hi (mX1_longest C.2.2.2.2.2.2.2.2.2.2.2.1 p0 p1 S _ _ h) (lw_V q1959 q1960 q1961 q99 q1962) (by decide +kernel) ⟨by rw [hRf]; exact Nat.le_of_ble_eq_true rfl, by rw [hRl]; exact Nat.le_of_ble_eq_true rfl⟩ rfl rfl (gle (gc_i (gc_r gc_0)) (by decide))) ?_
    refine g_i2l C dX0_longest_7 ?_
    refine g_last C dX0_longest_8 hF (fun S3 hF => ?_)
    refine g_goto C 15 dX0_longest_9 rfl ?_
    refine g_iconst (v := (0 : Int32)) C dX0_longest_15 rfl ?_
    cases hF
    exact g_iret C dX0_longest_16 rfl rfl
  · obtain ⟨cx, q4⟩ := xx
    refine g_caseN hF (fun e hF => ?_) (fun e hF => ?_)
    · subst e
      obtain ⟨hi, h⟩ := gV_some h
      refine g_afterT (g_runV (n := 1) C dX0_longest_4 rfl hi (mX1_longest C.2.2.2.2.2.2.2.2.2.2.2.1 p0 p1 S _ _ h) (lw_V q1959 q1960 q1961 q99 q1962) (by decide +kernel) ⟨by rw [hRf]; exact Nat.le_of_ble_eq_true rfl, by rw [hRl]; exact Nat.le_of_ble_eq_true rfl⟩ rfl rfl (gle (gc_i (gc_r gc_0)) (by decide))) ?_
      refine g_catch C 0 rfl rfl rfl (by decide) rfl q915 q185 ?_
      refine g_astore_n C dX0_longest_12 (by decide) (gcons rfl (gfk rfl rfl (gfk rfl rfl (gfr rfl gf0)))) ?_
      refine g_iconst (v := (1 : Int32)) C dX0_longest_13 rfl ?_
      cases hF
      exact g_iret C dX0_longest_14 rfl rfl
    cases hF
/-! VowelChoirLaw.chorus(LVowelChoir;I[J)I -/
def fX0_chorus (p0 : Option Nat) (p1 : Int32) (p2 : Option Nat) (S : gS) : Option (Int32 × gS) :=
  gC (gV [0] p0 S (fX1_chorus p0 p1 S)) (fun x1 S2 =>
  (oStL p2 (0 : Int32) x1.toInt64 S2).bind fun S3 =>
  some ((0 : Int32), S3)) (fun cx q4 S2 => if cx = 31 then
  some ((1 : Int32), S2)
  else none)
theorem mX0_chorus {l : Launch} {D : gD} {K : gK} (hl : l.stackTraces = false) : ∀ (p0 : Option Nat) (p1 : Int32) (p2 : Option Nat) (S : gS) (r : Int32) (S1 : gS), fX0_chorus p0 p1 p2 S = some (r, S1) → gMet l D K yX0_chorus (wsW_ yX0_chorus cX0_chorus 4 (Option.some Jvm.ClassFile.FieldType.int) [(0, 9, 12, 13)]) 609 28881 [va_rf p0, .int p1, va_rf p2] S (.inl (some (.int r))) S1 := by
  intro p0 p1 p2 S r S1 hF
  unfold fX0_chorus at hF
  refine gMet.ofH hl (by decide +kernel) rfl (gle (lgs_r (lgs_i (lgs_r lgs_0))) (by decide)) (fun p e s m below meth c R hRf hRl C _ => ?_)
  generalize hargs : ([va_rf p0, .int p1, va_rf p2] : List Value).toArray = args at C ⊢
  generalize hu0 : S.2.2.1 = u0 at C ⊢
  rw [show lv_args 0 [va_rf p0, .int p1, va_rf p2] = [(0, va_rf p0), (1, .int p1), (2, va_rf p2)] from (lva_r rfl (lva_i rfl (lva_r rfl lva_0)))]
  refine g_aload_n C 2 dX0_chorus_0 rfl ?_
  refine g_iconst (v := (0 : Int32)) C dX0_chorus_1 rfl ?_
  refine g_aload_n C 0 dX0_chorus_2 rfl ?_
  refine g_iload_n C 1 dX0_chorus_3 rfl ?_
  rcases gC_cases hF with ⟨x1, S2, h, hF⟩ | ⟨xx, S2, h, hF⟩
  · obtain ⟨hi, h⟩ := gV_some h
    refine g_after (g_runV (n := 1) C dX0_chorus_4 rfl hi (mX1_chorus C.2.2.2.2.2.2.2.2.2.2.2.1 p0 p1 S _ _ h) (lw_V q1966 q1967 q1968 q99 q1969) (by decide +kernel) ⟨by rw [hRf]; exact Nat.le_of_ble_eq_true rfl, by rw [hRl]; exact Nat.le_of_ble_eq_true rfl⟩ rfl rfl (gle (gc_i (gc_r gc_0)) (by decide))) ?_
    refine g_i2l C dX0_chorus_7 ?_
    refine g_last C dX0_chorus_8 hF (fun S3 hF => ?_)
    refine g_goto C 15 dX0_chorus_9 rfl ?_
    refine g_iconst (v := (0 : Int32)) C dX0_chorus_15 rfl ?_
    cases hF
    exact g_iret C dX0_chorus_16 rfl rfl
  · obtain ⟨cx, q4⟩ := xx
    refine g_caseN hF (fun e hF => ?_) (fun e hF => ?_)
    · subst e
      obtain ⟨hi, h⟩ := gV_some h
      refine g_afterT (g_runV (n := 1) C dX0_chorus_4 rfl hi (mX1_chorus C.2.2.2.2.2.2.2.2.2.2.2.1 p0 p1 S _ _ h) (lw_V q1966 q1967 q1968 q99 q1969) (by decide +kernel) ⟨by rw [hRf]; exact Nat.le_of_ble_eq_true rfl, by rw [hRl]; exact Nat.le_of_ble_eq_true rfl⟩ rfl rfl (gle (gc_i (gc_r gc_0)) (by decide))) ?_
      refine g_catch C 0 rfl rfl rfl (by decide) rfl q915 q185 ?_
      refine g_astore_n C dX0_chorus_12 (by decide) (gcons rfl (gfk rfl rfl (gfk rfl rfl (gfr rfl gf0)))) ?_
      refine g_iconst (v := (1 : Int32)) C dX0_chorus_13 rfl ?_
      cases hF
      exact g_iret C dX0_chorus_14 rfl rfl
    cases hF
/-! VowelChoirLaw.spare(LVowelChoir;I[J)I -/
def fX0_spare (p0 : Option Nat) (p1 : Int32) (p2 : Option Nat) (S : gS) : Option (Int32 × gS) :=
  gC (gV [0] p0 S (fX1_spare p0 p1 S)) (fun x1 S2 =>
  (oStL p2 (0 : Int32) x1.toInt64 S2).bind fun S3 =>
  some ((0 : Int32), S3)) (fun cx q4 S2 => if cx = 31 then
  some ((1 : Int32), S2)
  else none)
theorem mX0_spare {l : Launch} {D : gD} {K : gK} (hl : l.stackTraces = false) : ∀ (p0 : Option Nat) (p1 : Int32) (p2 : Option Nat) (S : gS) (r : Int32) (S1 : gS), fX0_spare p0 p1 p2 S = some (r, S1) → gMet l D K yX0_spare (wsW_ yX0_spare cX0_spare 4 (Option.some Jvm.ClassFile.FieldType.int) [(0, 9, 12, 13)]) 9 163 [va_rf p0, .int p1, va_rf p2] S (.inl (some (.int r))) S1 := by
  intro p0 p1 p2 S r S1 hF
  unfold fX0_spare at hF
  refine gMet.ofH hl (by decide +kernel) rfl (gle (lgs_r (lgs_i (lgs_r lgs_0))) (by decide)) (fun p e s m below meth c R hRf hRl C _ => ?_)
  generalize hargs : ([va_rf p0, .int p1, va_rf p2] : List Value).toArray = args at C ⊢
  generalize hu0 : S.2.2.1 = u0 at C ⊢
  rw [show lv_args 0 [va_rf p0, .int p1, va_rf p2] = [(0, va_rf p0), (1, .int p1), (2, va_rf p2)] from (lva_r rfl (lva_i rfl (lva_r rfl lva_0)))]
  refine g_aload_n C 2 dX0_spare_0 rfl ?_
  refine g_iconst (v := (0 : Int32)) C dX0_spare_1 rfl ?_
  refine g_aload_n C 0 dX0_spare_2 rfl ?_
  refine g_iload_n C 1 dX0_spare_3 rfl ?_
  rcases gC_cases hF with ⟨x1, S2, h, hF⟩ | ⟨xx, S2, h, hF⟩
  · obtain ⟨hi, h⟩ := gV_some h
    refine g_after (g_runV (n := 1) C dX0_spare_4 rfl hi (mX1_spare C.2.2.2.2.2.2.2.2.2.2.2.1 p0 p1 S _ _ h) (lw_V q1973 q1974 q1975 q99 q1976) (by decide +kernel) ⟨by rw [hRf]; exact Nat.le_of_ble_eq_true rfl, by rw [hRl]; exact Nat.le_of_ble_eq_true rfl⟩ rfl rfl (gle (gc_i (gc_r gc_0)) (by decide))) ?_
    refine g_i2l C dX0_spare_7 ?_
    refine g_last C dX0_spare_8 hF (fun S3 hF => ?_)
    refine g_goto C 15 dX0_spare_9 rfl ?_
    refine g_iconst (v := (0 : Int32)) C dX0_spare_15 rfl ?_
    cases hF
    exact g_iret C dX0_spare_16 rfl rfl
  · obtain ⟨cx, q4⟩ := xx
    refine g_caseN hF (fun e hF => ?_) (fun e hF => ?_)
    · subst e
      obtain ⟨hi, h⟩ := gV_some h
      refine g_afterT (g_runV (n := 1) C dX0_spare_4 rfl hi (mX1_spare C.2.2.2.2.2.2.2.2.2.2.2.1 p0 p1 S _ _ h) (lw_V q1973 q1974 q1975 q99 q1976) (by decide +kernel) ⟨by rw [hRf]; exact Nat.le_of_ble_eq_true rfl, by rw [hRl]; exact Nat.le_of_ble_eq_true rfl⟩ rfl rfl (gle (gc_i (gc_r gc_0)) (by decide))) ?_
      refine g_catch C 0 rfl rfl rfl (by decide) rfl q915 q185 ?_
      refine g_astore_n C dX0_spare_12 (by decide) (gcons rfl (gfk rfl rfl (gfk rfl rfl (gfr rfl gf0)))) ?_
      refine g_iconst (v := (1 : Int32)) C dX0_spare_13 rfl ?_
      cases hF
      exact g_iret C dX0_spare_14 rfl rfl
    cases hF
/-! VowelChoirLaw.sunday(LVowelChoir;IIII[J)I -/
def fX0_sunday (p0 : Option Nat) (p1 : Int32) (p2 : Int32) (p3 : Int32) (p4 : Int32) (p5 : Option Nat) (S : gS) : Option (Int32 × gS) :=
  gC (gV [0] p0 S (fX1_sunday p0 p1 p2 p3 p4 S)) (fun x1 S2 =>
  (oStL p5 (0 : Int32) x1.toInt64 S2).bind fun S3 =>
  some ((0 : Int32), S3)) (fun cx q4 S2 => if cx = 31 then
  some ((1 : Int32), S2)
  else none)
theorem mX0_sunday {l : Launch} {D : gD} {K : gK} (hl : l.stackTraces = false) : ∀ (p0 : Option Nat) (p1 : Int32) (p2 : Int32) (p3 : Int32) (p4 : Int32) (p5 : Option Nat) (S : gS) (r : Int32) (S1 : gS), fX0_sunday p0 p1 p2 p3 p4 p5 S = some (r, S1) → gMet l D K yX0_sunday (wsW_ yX0_sunday cX0_sunday 7 (Option.some Jvm.ClassFile.FieldType.int) [(0, 14, 17, 13)]) 610 28909 [va_rf p0, .int p1, .int p2, .int p3, .int p4, va_rf p5] S (.inl (some (.int r))) S1 := by
  intro p0 p1 p2 p3 p4 p5 S r S1 hF
  unfold fX0_sunday at hF
  refine gMet.ofH hl (by decide +kernel) rfl (gle (lgs_r (lgs_i (lgs_i (lgs_i (lgs_i (lgs_r lgs_0)))))) (by decide)) (fun p e s m below meth c R hRf hRl C _ => ?_)
  generalize hargs : ([va_rf p0, .int p1, .int p2, .int p3, .int p4, va_rf p5] : List Value).toArray = args at C ⊢
  generalize hu0 : S.2.2.1 = u0 at C ⊢
  rw [show lv_args 0 [va_rf p0, .int p1, .int p2, .int p3, .int p4, va_rf p5] = [(0, va_rf p0), (1, .int p1), (2, .int p2), (3, .int p3), (4, .int p4), (5, va_rf p5)] from (lva_r rfl (lva_i rfl (lva_i rfl (lva_i rfl (lva_i rfl (lva_r rfl lva_0))))))]
  refine g_aload C 5 dX0_sunday_0 rfl ?_
  refine g_iconst (v := (0 : Int32)) C dX0_sunday_2 rfl ?_
  refine g_aload_n C 0 dX0_sunday_3 rfl ?_
  refine g_iload_n C 1 dX0_sunday_4 rfl ?_
  refine g_iload_n C 2 dX0_sunday_5 rfl ?_
  refine g_iload_n C 3 dX0_sunday_6 rfl ?_
  refine g_iload C 4 dX0_sunday_7 rfl ?_
  rcases gC_cases hF with ⟨x1, S2, h, hF⟩ | ⟨xx, S2, h, hF⟩
  · obtain ⟨hi, h⟩ := gV_some h
    refine g_after (g_runV (n := 4) C dX0_sunday_9 rfl hi (mX1_sunday C.2.2.2.2.2.2.2.2.2.2.2.1 p0 p1 p2 p3 p4 S _ _ h) (lw_V q1980 q1981 q1982 q99 q1983) (by decide +kernel) ⟨by rw [hRf]; exact Nat.le_of_ble_eq_true rfl, by rw [hRl]; exact Nat.le_of_ble_eq_true rfl⟩ rfl rfl (gle (gc_i (gc_r gc_0)) (by decide))) ?_
    refine g_i2l C dX0_sunday_12 ?_
    refine g_last C dX0_sunday_13 hF (fun S3 hF => ?_)
    refine g_goto C 21 dX0_sunday_14 rfl ?_
    refine g_iconst (v := (0 : Int32)) C dX0_sunday_21 rfl ?_
    cases hF
    exact g_iret C dX0_sunday_22 rfl rfl
  · obtain ⟨cx, q4⟩ := xx
    refine g_caseN hF (fun e hF => ?_) (fun e hF => ?_)
    · subst e
      obtain ⟨hi, h⟩ := gV_some h
      refine g_afterT (g_runV (n := 4) C dX0_sunday_9 rfl hi (mX1_sunday C.2.2.2.2.2.2.2.2.2.2.2.1 p0 p1 p2 p3 p4 S _ _ h) (lw_V q1980 q1981 q1982 q99 q1983) (by decide +kernel) ⟨by rw [hRf]; exact Nat.le_of_ble_eq_true rfl, by rw [hRl]; exact Nat.le_of_ble_eq_true rfl⟩ rfl rfl (gle (gc_i (gc_r gc_0)) (by decide))) ?_
      refine g_catch C 0 rfl rfl rfl (by decide) rfl q915 q185 ?_
      refine g_astore C dX0_sunday_17 (by decide) (gcons rfl (gfk rfl rfl (gfk rfl rfl (gfk rfl rfl (gfk rfl rfl (gfk rfl rfl (gfr rfl gf0))))))) ?_
      refine g_iconst (v := (1 : Int32)) C dX0_sunday_19 rfl ?_
      cases hF
      exact g_iret C dX0_sunday_20 rfl rfl
    cases hF
/-! VowelChoirLaw.span(LVowelChoir;IIIIII[J)I -/
def fX0_span (p0 : Option Nat) (p1 : Int32) (p2 : Int32) (p3 : Int32) (p4 : Int32) (p5 : Int32) (p6 : Int32) (p7 : Option Nat) (S : gS) : Option (Int32 × gS) :=
  gC (gV [0] p0 S (fX1_span p0 p1 p2 p3 p4 p5 p6 S)) (fun x1 S2 =>
  (oStL p7 (0 : Int32) x1.toInt64 S2).bind fun S3 =>
  some ((0 : Int32), S3)) (fun cx q4 S2 => if cx = 31 then
  some ((1 : Int32), S2)
  else none)
theorem mX0_span {l : Launch} {D : gD} {K : gK} (hl : l.stackTraces = false) : ∀ (p0 : Option Nat) (p1 : Int32) (p2 : Int32) (p3 : Int32) (p4 : Int32) (p5 : Int32) (p6 : Int32) (p7 : Option Nat) (S : gS) (r : Int32) (S1 : gS), fX0_span p0 p1 p2 p3 p4 p5 p6 p7 S = some (r, S1) → gMet l D K yX0_span (wsW_ yX0_span cX0_span 9 (Option.some Jvm.ClassFile.FieldType.int) [(0, 18, 21, 13)]) 610 28916 [va_rf p0, .int p1, .int p2, .int p3, .int p4, .int p5, .int p6, va_rf p7] S (.inl (some (.int r))) S1 := by
  intro p0 p1 p2 p3 p4 p5 p6 p7 S r S1 hF
  unfold fX0_span at hF
  refine gMet.ofH hl (by decide +kernel) rfl (gle (lgs_r (lgs_i (lgs_i (lgs_i (lgs_i (lgs_i (lgs_i (lgs_r lgs_0)))))))) (by decide)) (fun p e s m below meth c R hRf hRl C _ => ?_)
  generalize hargs : ([va_rf p0, .int p1, .int p2, .int p3, .int p4, .int p5, .int p6, va_rf p7] : List Value).toArray = args at C ⊢
  generalize hu0 : S.2.2.1 = u0 at C ⊢
  rw [show lv_args 0 [va_rf p0, .int p1, .int p2, .int p3, .int p4, .int p5, .int p6, va_rf p7] = [(0, va_rf p0), (1, .int p1), (2, .int p2), (3, .int p3), (4, .int p4), (5, .int p5), (6, .int p6), (7, va_rf p7)] from (lva_r rfl (lva_i rfl (lva_i rfl (lva_i rfl (lva_i rfl (lva_i rfl (lva_i rfl (lva_r rfl lva_0))))))))]
  refine g_aload C 7 dX0_span_0 rfl ?_
  refine g_iconst (v := (0 : Int32)) C dX0_span_2 rfl ?_
  refine g_aload_n C 0 dX0_span_3 rfl ?_
  refine g_iload_n C 1 dX0_span_4 rfl ?_
  refine g_iload_n C 2 dX0_span_5 rfl ?_
  refine g_iload_n C 3 dX0_span_6 rfl ?_
  refine g_iload C 4 dX0_span_7 rfl ?_
  refine g_iload C 5 dX0_span_9 rfl ?_
  refine g_iload C 6 dX0_span_11 rfl ?_
  rcases gC_cases hF with ⟨x1, S2, h, hF⟩ | ⟨xx, S2, h, hF⟩
  · obtain ⟨hi, h⟩ := gV_some h
    refine g_after (g_runV (n := 6) C dX0_span_13 rfl hi (mX1_span C.2.2.2.2.2.2.2.2.2.2.2.1 p0 p1 p2 p3 p4 p5 p6 S _ _ h) (lw_V q2001 q2002 q2003 q99 q2004) (by decide +kernel) ⟨by rw [hRf]; exact Nat.le_of_ble_eq_true rfl, by rw [hRl]; exact Nat.le_of_ble_eq_true rfl⟩ rfl rfl (gle (gc_i (gc_r gc_0)) (by decide))) ?_
    refine g_i2l C dX0_span_16 ?_
    refine g_last C dX0_span_17 hF (fun S3 hF => ?_)
    refine g_goto C 25 dX0_span_18 rfl ?_
    refine g_iconst (v := (0 : Int32)) C dX0_span_25 rfl ?_
    cases hF
    exact g_iret C dX0_span_26 rfl rfl
  · obtain ⟨cx, q4⟩ := xx
    refine g_caseN hF (fun e hF => ?_) (fun e hF => ?_)
    · subst e
      obtain ⟨hi, h⟩ := gV_some h
      refine g_afterT (g_runV (n := 6) C dX0_span_13 rfl hi (mX1_span C.2.2.2.2.2.2.2.2.2.2.2.1 p0 p1 p2 p3 p4 p5 p6 S _ _ h) (lw_V q2001 q2002 q2003 q99 q2004) (by decide +kernel) ⟨by rw [hRf]; exact Nat.le_of_ble_eq_true rfl, by rw [hRl]; exact Nat.le_of_ble_eq_true rfl⟩ rfl rfl (gle (gc_i (gc_r gc_0)) (by decide))) ?_
      refine g_catch C 0 rfl rfl rfl (by decide) rfl q915 q185 ?_
      refine g_astore C dX0_span_21 (by decide) (gcons rfl (gfk rfl rfl (gfk rfl rfl (gfk rfl rfl (gfk rfl rfl (gfk rfl rfl (gfk rfl rfl (gfk rfl rfl (gfr rfl gf0))))))))) ?_
      refine g_iconst (v := (1 : Int32)) C dX0_span_23 rfl ?_
      cases hF
      exact g_iret C dX0_span_24 rfl rfl
    cases hF
end s19_wrap
