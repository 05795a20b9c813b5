/-! VowelChoirLaw -/
set_option maxRecDepth 100000
def RX0 : String := "VowelChoirLaw"
abbrev cX0_choir : ByteArray := method_3_code
def yX0_choir : MethodName := ⟨RX0, "choir", "(LVowelChoir;I[J)I"⟩
def dkwX0_choir_0 : List UInt8 := [44, 3, 42, 27, 182, 0, 7, 133, 80, 167, 0, 6, 78, 4, 172, 3, 172]
abbrev dktX0_choir_0 : List UInt8 := dkwX0_choir_0 ++ []
theorem dksX0_choir_0 : cX0_choir.data.toList.drop 0 = dktX0_choir_0 := by decide +kernel
theorem dX0_choir_0 : decode cX0_choir 0 = .ok (.aload_n 2, 1) := dk_44 (dk_at dksX0_choir_0 0 rfl rfl)
theorem dX0_choir_1 : decode cX0_choir 1 = .ok (.iconst 0, 1) := dk_3 (dk_at dksX0_choir_0 1 rfl rfl)
theorem dX0_choir_2 : decode cX0_choir 2 = .ok (.aload_n 0, 1) := dk_42 (dk_at dksX0_choir_0 2 rfl rfl)
theorem dX0_choir_3 : decode cX0_choir 3 = .ok (.iload_n 1, 1) := dk_27 (dk_at dksX0_choir_0 3 rfl rfl)
theorem dX0_choir_4 : decode cX0_choir 4 = .ok (.invokevirtual 7, 3) := dk_182 0 7 (dk_at dksX0_choir_0 4 rfl rfl)
theorem dX0_choir_7 : decode cX0_choir 7 = .ok (.i2l, 1) := dk_133 (dk_at dksX0_choir_0 7 rfl rfl)
theorem dX0_choir_8 : decode cX0_choir 8 = .ok (.lastore, 1) := dk_80 (dk_at dksX0_choir_0 8 rfl rfl)
theorem dX0_choir_9 : decode cX0_choir 9 = .ok (.goto 6, 3) := dk_167 0 6 (dk_at dksX0_choir_0 9 rfl rfl)
theorem dX0_choir_12 : decode cX0_choir 12 = .ok (.astore_n 3, 1) := dk_78 (dk_at dksX0_choir_0 12 rfl rfl)
theorem dX0_choir_13 : decode cX0_choir 13 = .ok (.iconst 1, 1) := dk_4 (dk_at dksX0_choir_0 13 rfl rfl)
theorem dX0_choir_14 : decode cX0_choir 14 = .ok (.ireturn, 1) := dk_172 (dk_at dksX0_choir_0 14 rfl rfl)
theorem dX0_choir_15 : decode cX0_choir 15 = .ok (.iconst 0, 1) := dk_3 (dk_at dksX0_choir_0 15 rfl rfl)
theorem dX0_choir_16 : decode cX0_choir 16 = .ok (.ireturn, 1) := dk_172 (dk_at dksX0_choir_0 16 rfl rfl)
abbrev cX0_law : ByteArray := method_4_code
def yX0_law : MethodName := ⟨RX0, "law", "(LVowelChoir;I[J)I"⟩
def dkwX0_law_0 : List UInt8 := [44, 3, 42, 27, 182, 0, 15, 133, 80, 167, 0, 6, 78, 4, 172, 3, 172]
abbrev dktX0_law_0 : List UInt8 := dkwX0_law_0 ++ []
theorem dksX0_law_0 : cX0_law.data.toList.drop 0 = dktX0_law_0 := by decide +kernel
theorem dX0_law_0 : decode cX0_law 0 = .ok (.aload_n 2, 1) := dk_44 (dk_at dksX0_law_0 0 rfl rfl)
theorem dX0_law_1 : decode cX0_law 1 = .ok (.iconst 0, 1) := dk_3 (dk_at dksX0_law_0 1 rfl rfl)
theorem dX0_law_2 : decode cX0_law 2 = .ok (.aload_n 0, 1) := dk_42 (dk_at dksX0_law_0 2 rfl rfl)
theorem dX0_law_3 : decode cX0_law 3 = .ok (.iload_n 1, 1) := dk_27 (dk_at dksX0_law_0 3 rfl rfl)
theorem dX0_law_4 : decode cX0_law 4 = .ok (.invokevirtual 15, 3) := dk_182 0 15 (dk_at dksX0_law_0 4 rfl rfl)
theorem dX0_law_7 : decode cX0_law 7 = .ok (.i2l, 1) := dk_133 (dk_at dksX0_law_0 7 rfl rfl)
theorem dX0_law_8 : decode cX0_law 8 = .ok (.lastore, 1) := dk_80 (dk_at dksX0_law_0 8 rfl rfl)
theorem dX0_law_9 : decode cX0_law 9 = .ok (.goto 6, 3) := dk_167 0 6 (dk_at dksX0_law_0 9 rfl rfl)
theorem dX0_law_12 : decode cX0_law 12 = .ok (.astore_n 3, 1) := dk_78 (dk_at dksX0_law_0 12 rfl rfl)
theorem dX0_law_13 : decode cX0_law 13 = .ok (.iconst 1, 1) := dk_4 (dk_at dksX0_law_0 13 rfl rfl)
theorem dX0_law_14 : decode cX0_law 14 = .ok (.ireturn, 1) := dk_172 (dk_at dksX0_law_0 14 rfl rfl)
theorem dX0_law_15 : decode cX0_law 15 = .ok (.iconst 0, 1) := dk_3 (dk_at dksX0_law_0 15 rfl rfl)
theorem dX0_law_16 : decode cX0_law 16 = .ok (.ireturn, 1) := dk_172 (dk_at dksX0_law_0 16 rfl rfl)
abbrev cX0_work : ByteArray := method_5_code
def yX0_work : MethodName := ⟨RX0, "work", "(LVowelChoir;I[J)I"⟩
def dkwX0_work_0 : List UInt8 := [44, 3, 42, 27, 182, 0, 18, 133, 80, 167, 0, 6, 78, 4, 172, 3, 172]
abbrev dktX0_work_0 : List UInt8 := dkwX0_work_0 ++ []
theorem dksX0_work_0 : cX0_work.data.toList.drop 0 = dktX0_work_0 := by decide +kernel
theorem dX0_work_0 : decode cX0_work 0 = .ok (.aload_n 2, 1) := dk_44 (dk_at dksX0_work_0 0 rfl rfl)
theorem dX0_work_1 : decode cX0_work 1 = .ok (.iconst 0, 1) := dk_3 (dk_at dksX0_work_0 1 rfl rfl)
theorem dX0_work_2 : decode cX0_work 2 = .ok (.aload_n 0, 1) := dk_42 (dk_at dksX0_work_0 2 rfl rfl)
theorem dX0_work_3 : decode cX0_work 3 = .ok (.iload_n 1, 1) := dk_27 (dk_at dksX0_work_0 3 rfl rfl)
theorem dX0_work_4 : decode cX0_work 4 = .ok (.invokevirtual 18, 3) := dk_182 0 18 (dk_at dksX0_work_0 4 rfl rfl)
theorem dX0_work_7 : decode cX0_work 7 = .ok (.i2l, 1) := dk_133 (dk_at dksX0_work_0 7 rfl rfl)
theorem dX0_work_8 : decode cX0_work 8 = .ok (.lastore, 1) := dk_80 (dk_at dksX0_work_0 8 rfl rfl)
theorem dX0_work_9 : decode cX0_work 9 = .ok (.goto 6, 3) := dk_167 0 6 (dk_at dksX0_work_0 9 rfl rfl)
theorem dX0_work_12 : decode cX0_work 12 = .ok (.astore_n 3, 1) := dk_78 (dk_at dksX0_work_0 12 rfl rfl)
theorem dX0_work_13 : decode cX0_work 13 = .ok (.iconst 1, 1) := dk_4 (dk_at dksX0_work_0 13 rfl rfl)
theorem dX0_work_14 : decode cX0_work 14 = .ok (.ireturn, 1) := dk_172 (dk_at dksX0_work_0 14 rfl rfl)
theorem dX0_work_15 : decode cX0_work 15 = .ok (.iconst 0, 1) := dk_3 (dk_at dksX0_work_0 15 rfl rfl)
theorem dX0_work_16 : decode cX0_work 16 = .ok (.ireturn, 1) := dk_172 (dk_at dksX0_work_0 16 rfl rfl)
abbrev cX0_book : ByteArray := method_6_code
def yX0_book : MethodName := ⟨RX0, "book", "(LVowelChoir;I[J)I"⟩
def dkwX0_book_0 : List UInt8 := [44, 3, 42, 27, 182, 0, 21, 133, 80, 167, 0, 6, 78, 4, 172, 3, 172]
abbrev dktX0_book_0 : List UInt8 := dkwX0_book_0 ++ []
theorem dksX0_book_0 : cX0_book.data.toList.drop 0 = dktX0_book_0 := by decide +kernel
theorem dX0_book_0 : decode cX0_book 0 = .ok (.aload_n 2, 1) := dk_44 (dk_at dksX0_book_0 0 rfl rfl)
theorem dX0_book_1 : decode cX0_book 1 = .ok (.iconst 0, 1) := dk_3 (dk_at dksX0_book_0 1 rfl rfl)
theorem dX0_book_2 : decode cX0_book 2 = .ok (.aload_n 0, 1) := dk_42 (dk_at dksX0_book_0 2 rfl rfl)
theorem dX0_book_3 : decode cX0_book 3 = .ok (.iload_n 1, 1) := dk_27 (dk_at dksX0_book_0 3 rfl rfl)
theorem dX0_book_4 : decode cX0_book 4 = .ok (.invokevirtual 21, 3) := dk_182 0 21 (dk_at dksX0_book_0 4 rfl rfl)
theorem dX0_book_7 : decode cX0_book 7 = .ok (.i2l, 1) := dk_133 (dk_at dksX0_book_0 7 rfl rfl)
theorem dX0_book_8 : decode cX0_book 8 = .ok (.lastore, 1) := dk_80 (dk_at dksX0_book_0 8 rfl rfl)
theorem dX0_book_9 : decode cX0_book 9 = .ok (.goto 6, 3) := dk_167 0 6 (dk_at dksX0_book_0 9 rfl rfl)
theorem dX0_book_12 : decode cX0_book 12 = .ok (.astore_n 3, 1) := dk_78 (dk_at dksX0_book_0 12 rfl rfl)
theorem dX0_book_13 : decode cX0_book 13 = .ok (.iconst 1, 1) := dk_4 (dk_at dksX0_book_0 13 rfl rfl)
theorem dX0_book_14 : decode cX0_book 14 = .ok (.ireturn, 1) := dk_172 (dk_at dksX0_book_0 14 rfl rfl)
theorem dX0_book_15 : decode cX0_book 15 = .ok (.iconst 0, 1) := dk_3 (dk_at dksX0_book_0 15 rfl rfl)
theorem dX0_book_16 : decode cX0_book 16 = .ok (.ireturn, 1) := dk_172 (dk_at dksX0_book_0 16 rfl rfl)
abbrev cX0_told : ByteArray := method_7_code
def yX0_told : MethodName := ⟨RX0, "told", "(LVowelChoir;I[J)I"⟩
def dkwX0_told_0 : List UInt8 := [44, 3, 42, 27, 182, 0, 24, 133, 80, 167, 0, 6, 78, 4, 172, 3, 172]
abbrev dktX0_told_0 : List UInt8 := dkwX0_told_0 ++ []
theorem dksX0_told_0 : cX0_told.data.toList.drop 0 = dktX0_told_0 := by decide +kernel
theorem dX0_told_0 : decode cX0_told 0 = .ok (.aload_n 2, 1) := dk_44 (dk_at dksX0_told_0 0 rfl rfl)
theorem dX0_told_1 : decode cX0_told 1 = .ok (.iconst 0, 1) := dk_3 (dk_at dksX0_told_0 1 rfl rfl)
theorem dX0_told_2 : decode cX0_told 2 = .ok (.aload_n 0, 1) := dk_42 (dk_at dksX0_told_0 2 rfl rfl)
theorem dX0_told_3 : decode cX0_told 3 = .ok (.iload_n 1, 1) := dk_27 (dk_at dksX0_told_0 3 rfl rfl)
theorem dX0_told_4 : decode cX0_told 4 = .ok (.invokevirtual 24, 3) := dk_182 0 24 (dk_at dksX0_told_0 4 rfl rfl)
theorem dX0_told_7 : decode cX0_told 7 = .ok (.i2l, 1) := dk_133 (dk_at dksX0_told_0 7 rfl rfl)
theorem dX0_told_8 : decode cX0_told 8 = .ok (.lastore, 1) := dk_80 (dk_at dksX0_told_0 8 rfl rfl)
theorem dX0_told_9 : decode cX0_told 9 = .ok (.goto 6, 3) := dk_167 0 6 (dk_at dksX0_told_0 9 rfl rfl)
theorem dX0_told_12 : decode cX0_told 12 = .ok (.astore_n 3, 1) := dk_78 (dk_at dksX0_told_0 12 rfl rfl)
theorem dX0_told_13 : decode cX0_told 13 = .ok (.iconst 1, 1) := dk_4 (dk_at dksX0_told_0 13 rfl rfl)
theorem dX0_told_14 : decode cX0_told 14 = .ok (.ireturn, 1) := dk_172 (dk_at dksX0_told_0 14 rfl rfl)
theorem dX0_told_15 : decode cX0_told 15 = .ok (.iconst 0, 1) := dk_3 (dk_at dksX0_told_0 15 rfl rfl)
theorem dX0_told_16 : decode cX0_told 16 = .ok (.ireturn, 1) := dk_172 (dk_at dksX0_told_0 16 rfl rfl)
abbrev cX0_singer : ByteArray := method_8_code
def yX0_singer : MethodName := ⟨RX0, "singer", "(LVowelChoir;II[J)I"⟩
def dkwX0_singer_0 : List UInt8 := [45, 3, 42, 27, 28, 182, 0, 27, 133, 80, 167, 0, 11, 58, 4, 4, 172, 58, 4, 5, 172, 3, 172]
abbrev dktX0_singer_0 : List UInt8 := dkwX0_singer_0 ++ []
theorem dksX0_singer_0 : cX0_singer.data.toList.drop 0 = dktX0_singer_0 := by decide +kernel
theorem dX0_singer_0 : decode cX0_singer 0 = .ok (.aload_n 3, 1) := dk_45 (dk_at dksX0_singer_0 0 rfl rfl)
theorem dX0_singer_1 : decode cX0_singer 1 = .ok (.iconst 0, 1) := dk_3 (dk_at dksX0_singer_0 1 rfl rfl)
theorem dX0_singer_2 : decode cX0_singer 2 = .ok (.aload_n 0, 1) := dk_42 (dk_at dksX0_singer_0 2 rfl rfl)
theorem dX0_singer_3 : decode cX0_singer 3 = .ok (.iload_n 1, 1) := dk_27 (dk_at dksX0_singer_0 3 rfl rfl)
theorem dX0_singer_4 : decode cX0_singer 4 = .ok (.iload_n 2, 1) := dk_28 (dk_at dksX0_singer_0 4 rfl rfl)
theorem dX0_singer_5 : decode cX0_singer 5 = .ok (.invokevirtual 27, 3) := dk_182 0 27 (dk_at dksX0_singer_0 5 rfl rfl)
theorem dX0_singer_8 : decode cX0_singer 8 = .ok (.i2l, 1) := dk_133 (dk_at dksX0_singer_0 8 rfl rfl)
theorem dX0_singer_9 : decode cX0_singer 9 = .ok (.lastore, 1) := dk_80 (dk_at dksX0_singer_0 9 rfl rfl)
theorem dX0_singer_10 : decode cX0_singer 10 = .ok (.goto 11, 3) := dk_167 0 11 (dk_at dksX0_singer_0 10 rfl rfl)
theorem dX0_singer_13 : decode cX0_singer 13 = .ok (.astore 4, 2) := dk_58 4 (dk_at dksX0_singer_0 13 rfl rfl)
theorem dX0_singer_15 : decode cX0_singer 15 = .ok (.iconst 1, 1) := dk_4 (dk_at dksX0_singer_0 15 rfl rfl)
theorem dX0_singer_16 : decode cX0_singer 16 = .ok (.ireturn, 1) := dk_172 (dk_at dksX0_singer_0 16 rfl rfl)
theorem dX0_singer_17 : decode cX0_singer 17 = .ok (.astore 4, 2) := dk_58 4 (dk_at dksX0_singer_0 17 rfl rfl)
theorem dX0_singer_19 : decode cX0_singer 19 = .ok (.iconst 2, 1) := dk_5 (dk_at dksX0_singer_0 19 rfl rfl)
theorem dX0_singer_20 : decode cX0_singer 20 = .ok (.ireturn, 1) := dk_172 (dk_at dksX0_singer_0 20 rfl rfl)
theorem dX0_singer_21 : decode cX0_singer 21 = .ok (.iconst 0, 1) := dk_3 (dk_at dksX0_singer_0 21 rfl rfl)
theorem dX0_singer_22 : decode cX0_singer 22 = .ok (.ireturn, 1) := dk_172 (dk_at dksX0_singer_0 22 rfl rfl)
abbrev cX0_note : ByteArray := method_9_code
def yX0_note : MethodName := ⟨RX0, "note", "(LVowelChoir;II[J)I"⟩
def dkwX0_note_0 : List UInt8 := [45, 3, 42, 27, 28, 182, 0, 33, 133, 80, 167, 0, 11, 58, 4, 4, 172, 58, 4, 5, 172, 3, 172]
abbrev dktX0_note_0 : List UInt8 := dkwX0_note_0 ++ []
theorem dksX0_note_0 : cX0_note.data.toList.drop 0 = dktX0_note_0 := by decide +kernel
theorem dX0_note_0 : decode cX0_note 0 = .ok (.aload_n 3, 1) := dk_45 (dk_at dksX0_note_0 0 rfl rfl)
theorem dX0_note_1 : decode cX0_note 1 = .ok (.iconst 0, 1) := dk_3 (dk_at dksX0_note_0 1 rfl rfl)
theorem dX0_note_2 : decode cX0_note 2 = .ok (.aload_n 0, 1) := dk_42 (dk_at dksX0_note_0 2 rfl rfl)
theorem dX0_note_3 : decode cX0_note 3 = .ok (.iload_n 1, 1) := dk_27 (dk_at dksX0_note_0 3 rfl rfl)
theorem dX0_note_4 : decode cX0_note 4 = .ok (.iload_n 2, 1) := dk_28 (dk_at dksX0_note_0 4 rfl rfl)
theorem dX0_note_5 : decode cX0_note 5 = .ok (.invokevirtual 33, 3) := dk_182 0 33 (dk_at dksX0_note_0 5 rfl rfl)
theorem dX0_note_8 : decode cX0_note 8 = .ok (.i2l, 1) := dk_133 (dk_at dksX0_note_0 8 rfl rfl)
theorem dX0_note_9 : decode cX0_note 9 = .ok (.lastore, 1) := dk_80 (dk_at dksX0_note_0 9 rfl rfl)
theorem dX0_note_10 : decode cX0_note 10 = .ok (.goto 11, 3) := dk_167 0 11 (dk_at dksX0_note_0 10 rfl rfl)
theorem dX0_note_13 : decode cX0_note 13 = .ok (.astore 4, 2) := dk_58 4 (dk_at dksX0_note_0 13 rfl rfl)
theorem dX0_note_15 : decode cX0_note 15 = .ok (.iconst 1, 1) := dk_4 (dk_at dksX0_note_0 15 rfl rfl)
theorem dX0_note_16 : decode cX0_note 16 = .ok (.ireturn, 1) := dk_172 (dk_at dksX0_note_0 16 rfl rfl)
theorem dX0_note_17 : decode cX0_note 17 = .ok (.astore 4, 2) := dk_58 4 (dk_at dksX0_note_0 17 rfl rfl)
theorem dX0_note_19 : decode cX0_note 19 = .ok (.iconst 2, 1) := dk_5 (dk_at dksX0_note_0 19 rfl rfl)
theorem dX0_note_20 : decode cX0_note 20 = .ok (.ireturn, 1) := dk_172 (dk_at dksX0_note_0 20 rfl rfl)
theorem dX0_note_21 : decode cX0_note 21 = .ok (.iconst 0, 1) := dk_3 (dk_at dksX0_note_0 21 rfl rfl)
theorem dX0_note_22 : decode cX0_note 22 = .ok (.ireturn, 1) := dk_172 (dk_at dksX0_note_0 22 rfl rfl)
abbrev cX0_like : ByteArray := method_10_code
def yX0_like : MethodName := ⟨RX0, "like", "(LVowelChoir;II[J)I"⟩
def dkwX0_like_0 : List UInt8 := [45, 3, 42, 27, 28, 182, 0, 36, 133, 80, 167, 0, 11, 58, 4, 4, 172, 58, 4, 5, 172, 3, 172]
abbrev dktX0_like_0 : List UInt8 := dkwX0_like_0 ++ []
theorem dksX0_like_0 : cX0_like.data.toList.drop 0 = dktX0_like_0 := by decide +kernel
theorem dX0_like_0 : decode cX0_like 0 = .ok (.aload_n 3, 1) := dk_45 (dk_at dksX0_like_0 0 rfl rfl)
theorem dX0_like_1 : decode cX0_like 1 = .ok (.iconst 0, 1) := dk_3 (dk_at dksX0_like_0 1 rfl rfl)
theorem dX0_like_2 : decode cX0_like 2 = .ok (.aload_n 0, 1) := dk_42 (dk_at dksX0_like_0 2 rfl rfl)
theorem dX0_like_3 : decode cX0_like 3 = .ok (.iload_n 1, 1) := dk_27 (dk_at dksX0_like_0 3 rfl rfl)
theorem dX0_like_4 : decode cX0_like 4 = .ok (.iload_n 2, 1) := dk_28 (dk_at dksX0_like_0 4 rfl rfl)
theorem dX0_like_5 : decode cX0_like 5 = .ok (.invokevirtual 36, 3) := dk_182 0 36 (dk_at dksX0_like_0 5 rfl rfl)
theorem dX0_like_8 : decode cX0_like 8 = .ok (.i2l, 1) := dk_133 (dk_at dksX0_like_0 8 rfl rfl)
theorem dX0_like_9 : decode cX0_like 9 = .ok (.lastore, 1) := dk_80 (dk_at dksX0_like_0 9 rfl rfl)
theorem dX0_like_10 : decode cX0_like 10 = .ok (.goto 11, 3) := dk_167 0 11 (dk_at dksX0_like_0 10 rfl rfl)
theorem dX0_like_13 : decode cX0_like 13 = .ok (.astore 4, 2) := dk_58 4 (dk_at dksX0_like_0 13 rfl rfl)
theorem dX0_like_15 : decode cX0_like 15 = .ok (.iconst 1, 1) := dk_4 (dk_at dksX0_like_0 15 rfl rfl)
theorem dX0_like_16 : decode cX0_like 16 = .ok (.ireturn, 1) := dk_172 (dk_at dksX0_like_0 16 rfl rfl)
theorem dX0_like_17 : decode cX0_like 17 = .ok (.astore 4, 2) := dk_58 4 (dk_at dksX0_like_0 17 rfl rfl)
theorem dX0_like_19 : decode cX0_like 19 = .ok (.iconst 2, 1) := dk_5 (dk_at dksX0_like_0 19 rfl rfl)
theorem dX0_like_20 : decode cX0_like 20 = .ok (.ireturn, 1) := dk_172 (dk_at dksX0_like_0 20 rfl rfl)
theorem dX0_like_21 : decode cX0_like 21 = .ok (.iconst 0, 1) := dk_3 (dk_at dksX0_like_0 21 rfl rfl)
theorem dX0_like_22 : decode cX0_like 22 = .ok (.ireturn, 1) := dk_172 (dk_at dksX0_like_0 22 rfl rfl)
abbrev cX0_takes : ByteArray := method_11_code
def yX0_takes : MethodName := ⟨RX0, "takes", "(LVowelChoir;II[J)I"⟩
def dkwX0_takes_0 : List UInt8 := [45, 3, 42, 27, 28, 182, 0, 39, 133, 80, 167, 0, 7, 58, 4, 4, 172, 3, 172]
abbrev dktX0_takes_0 : List UInt8 := dkwX0_takes_0 ++ []
theorem dksX0_takes_0 : cX0_takes.data.toList.drop 0 = dktX0_takes_0 := by decide +kernel
theorem dX0_takes_0 : decode cX0_takes 0 = .ok (.aload_n 3, 1) := dk_45 (dk_at dksX0_takes_0 0 rfl rfl)
theorem dX0_takes_1 : decode cX0_takes 1 = .ok (.iconst 0, 1) := dk_3 (dk_at dksX0_takes_0 1 rfl rfl)
theorem dX0_takes_2 : decode cX0_takes 2 = .ok (.aload_n 0, 1) := dk_42 (dk_at dksX0_takes_0 2 rfl rfl)
theorem dX0_takes_3 : decode cX0_takes 3 = .ok (.iload_n 1, 1) := dk_27 (dk_at dksX0_takes_0 3 rfl rfl)
theorem dX0_takes_4 : decode cX0_takes 4 = .ok (.iload_n 2, 1) := dk_28 (dk_at dksX0_takes_0 4 rfl rfl)
theorem dX0_takes_5 : decode cX0_takes 5 = .ok (.invokevirtual 39, 3) := dk_182 0 39 (dk_at dksX0_takes_0 5 rfl rfl)
theorem dX0_takes_8 : decode cX0_takes 8 = .ok (.i2l, 1) := dk_133 (dk_at dksX0_takes_0 8 rfl rfl)
theorem dX0_takes_9 : decode cX0_takes 9 = .ok (.lastore, 1) := dk_80 (dk_at dksX0_takes_0 9 rfl rfl)
theorem dX0_takes_10 : decode cX0_takes 10 = .ok (.goto 7, 3) := dk_167 0 7 (dk_at dksX0_takes_0 10 rfl rfl)
theorem dX0_takes_13 : decode cX0_takes 13 = .ok (.astore 4, 2) := dk_58 4 (dk_at dksX0_takes_0 13 rfl rfl)
theorem dX0_takes_15 : decode cX0_takes 15 = .ok (.iconst 1, 1) := dk_4 (dk_at dksX0_takes_0 15 rfl rfl)
theorem dX0_takes_16 : decode cX0_takes 16 = .ok (.ireturn, 1) := dk_172 (dk_at dksX0_takes_0 16 rfl rfl)
theorem dX0_takes_17 : decode cX0_takes 17 = .ok (.iconst 0, 1) := dk_3 (dk_at dksX0_takes_0 17 rfl rfl)
theorem dX0_takes_18 : decode cX0_takes 18 = .ok (.ireturn, 1) := dk_172 (dk_at dksX0_takes_0 18 rfl rfl)
abbrev cX0_would : ByteArray := method_12_code
def yX0_would : MethodName := ⟨RX0, "would", "(LVowelChoir;IIIIIIII[J)I"⟩
def dkwX0_would_1 : List UInt8 := [167, 0, 7, 58, 10, 4, 172, 3, 172]
abbrev dktX0_would_1 : List UInt8 := dkwX0_would_1 ++ []
def dkwX0_would_0 : List UInt8 := [25, 9, 3, 42, 27, 28, 29, 21, 4, 21, 5, 21, 6, 21, 7, 21, 8, 182, 0, 42, 133, 80]
abbrev dktX0_would_0 : List UInt8 := dkwX0_would_0 ++ dktX0_would_1
theorem dksX0_would_0 : cX0_would.data.toList.drop 0 = dktX0_would_0 := by decide +kernel
theorem dksX0_would_1 : cX0_would.data.toList.drop 22 = dktX0_would_1 := dk_seg dksX0_would_0 22 rfl rfl
theorem dX0_would_0 : decode cX0_would 0 = .ok (.aload 9, 2) := dk_25 9 (dk_at dksX0_would_0 0 rfl rfl)
theorem dX0_would_2 : decode cX0_would 2 = .ok (.iconst 0, 1) := dk_3 (dk_at dksX0_would_0 2 rfl rfl)
theorem dX0_would_3 : decode cX0_would 3 = .ok (.aload_n 0, 1) := dk_42 (dk_at dksX0_would_0 3 rfl rfl)
theorem dX0_would_4 : decode cX0_would 4 = .ok (.iload_n 1, 1) := dk_27 (dk_at dksX0_would_0 4 rfl rfl)
theorem dX0_would_5 : decode cX0_would 5 = .ok (.iload_n 2, 1) := dk_28 (dk_at dksX0_would_0 5 rfl rfl)
theorem dX0_would_6 : decode cX0_would 6 = .ok (.iload_n 3, 1) := dk_29 (dk_at dksX0_would_0 6 rfl rfl)
theorem dX0_would_7 : decode cX0_would 7 = .ok (.iload 4, 2) := dk_21 4 (dk_at dksX0_would_0 7 rfl rfl)
theorem dX0_would_9 : decode cX0_would 9 = .ok (.iload 5, 2) := dk_21 5 (dk_at dksX0_would_0 9 rfl rfl)
theorem dX0_would_11 : decode cX0_would 11 = .ok (.iload 6, 2) := dk_21 6 (dk_at dksX0_would_0 11 rfl rfl)
theorem dX0_would_13 : decode cX0_would 13 = .ok (.iload 7, 2) := dk_21 7 (dk_at dksX0_would_0 13 rfl rfl)
theorem dX0_would_15 : decode cX0_would 15 = .ok (.iload 8, 2) := dk_21 8 (dk_at dksX0_would_0 15 rfl rfl)
theorem dX0_would_17 : decode cX0_would 17 = .ok (.invokevirtual 42, 3) := dk_182 0 42 (dk_at dksX0_would_0 17 rfl rfl)
theorem dX0_would_20 : decode cX0_would 20 = .ok (.i2l, 1) := dk_133 (dk_at dksX0_would_0 20 rfl rfl)
theorem dX0_would_21 : decode cX0_would 21 = .ok (.lastore, 1) := dk_80 (dk_at dksX0_would_0 21 rfl rfl)
theorem dX0_would_22 : decode cX0_would 22 = .ok (.goto 7, 3) := dk_167 0 7 (dk_at dksX0_would_1 0 rfl rfl)
theorem dX0_would_25 : decode cX0_would 25 = .ok (.astore 10, 2) := dk_58 10 (dk_at dksX0_would_1 3 rfl rfl)
theorem dX0_would_27 : decode cX0_would 27 = .ok (.iconst 1, 1) := dk_4 (dk_at dksX0_would_1 5 rfl rfl)
theorem dX0_would_28 : decode cX0_would 28 = .ok (.ireturn, 1) := dk_172 (dk_at dksX0_would_1 6 rfl rfl)
theorem dX0_would_29 : decode cX0_would 29 = .ok (.iconst 0, 1) := dk_3 (dk_at dksX0_would_1 7 rfl rfl)
theorem dX0_would_30 : decode cX0_would 30 = .ok (.ireturn, 1) := dk_172 (dk_at dksX0_would_1 8 rfl rfl)
abbrev cX0_ahead : ByteArray := method_13_code
def yX0_ahead : MethodName := ⟨RX0, "ahead", "(LVowelChoir;II[J)I"⟩
def dkwX0_ahead_0 : List UInt8 := [45, 3, 42, 27, 28, 182, 0, 46, 133, 80, 167, 0, 7, 58, 4, 4, 172, 3, 172]
abbrev dktX0_ahead_0 : List UInt8 := dkwX0_ahead_0 ++ []
theorem dksX0_ahead_0 : cX0_ahead.data.toList.drop 0 = dktX0_ahead_0 := by decide +kernel
theorem dX0_ahead_0 : decode cX0_ahead 0 = .ok (.aload_n 3, 1) := dk_45 (dk_at dksX0_ahead_0 0 rfl rfl)
theorem dX0_ahead_1 : decode cX0_ahead 1 = .ok (.iconst 0, 1) := dk_3 (dk_at dksX0_ahead_0 1 rfl rfl)
theorem dX0_ahead_2 : decode cX0_ahead 2 = .ok (.aload_n 0, 1) := dk_42 (dk_at dksX0_ahead_0 2 rfl rfl)
theorem dX0_ahead_3 : decode cX0_ahead 3 = .ok (.iload_n 1, 1) := dk_27 (dk_at dksX0_ahead_0 3 rfl rfl)
theorem dX0_ahead_4 : decode cX0_ahead 4 = .ok (.iload_n 2, 1) := dk_28 (dk_at dksX0_ahead_0 4 rfl rfl)
theorem dX0_ahead_5 : decode cX0_ahead 5 = .ok (.invokevirtual 46, 3) := dk_182 0 46 (dk_at dksX0_ahead_0 5 rfl rfl)
theorem dX0_ahead_8 : decode cX0_ahead 8 = .ok (.i2l, 1) := dk_133 (dk_at dksX0_ahead_0 8 rfl rfl)
theorem dX0_ahead_9 : decode cX0_ahead 9 = .ok (.lastore, 1) := dk_80 (dk_at dksX0_ahead_0 9 rfl rfl)
theorem dX0_ahead_10 : decode cX0_ahead 10 = .ok (.goto 7, 3) := dk_167 0 7 (dk_at dksX0_ahead_0 10 rfl rfl)
theorem dX0_ahead_13 : decode cX0_ahead 13 = .ok (.astore 4, 2) := dk_58 4 (dk_at dksX0_ahead_0 13 rfl rfl)
theorem dX0_ahead_15 : decode cX0_ahead 15 = .ok (.iconst 1, 1) := dk_4 (dk_at dksX0_ahead_0 15 rfl rfl)
theorem dX0_ahead_16 : decode cX0_ahead 16 = .ok (.ireturn, 1) := dk_172 (dk_at dksX0_ahead_0 16 rfl rfl)
theorem dX0_ahead_17 : decode cX0_ahead 17 = .ok (.iconst 0, 1) := dk_3 (dk_at dksX0_ahead_0 17 rfl rfl)
theorem dX0_ahead_18 : decode cX0_ahead 18 = .ok (.ireturn, 1) := dk_172 (dk_at dksX0_ahead_0 18 rfl rfl)
abbrev cX0_handed : ByteArray := method_14_code
def yX0_handed : MethodName := ⟨RX0, "handed", "(LVowelChoir;II[J)I"⟩
def dkwX0_handed_0 : List UInt8 := [45, 3, 42, 27, 28, 182, 0, 49, 133, 80, 167, 0, 7, 58, 4, 4, 172, 3, 172]
abbrev dktX0_handed_0 : List UInt8 := dkwX0_handed_0 ++ []
theorem dksX0_handed_0 : cX0_handed.data.toList.drop 0 = dktX0_handed_0 := by decide +kernel
theorem dX0_handed_0 : decode cX0_handed 0 = .ok (.aload_n 3, 1) := dk_45 (dk_at dksX0_handed_0 0 rfl rfl)
theorem dX0_handed_1 : decode cX0_handed 1 = .ok (.iconst 0, 1) := dk_3 (dk_at dksX0_handed_0 1 rfl rfl)
theorem dX0_handed_2 : decode cX0_handed 2 = .ok (.aload_n 0, 1) := dk_42 (dk_at dksX0_handed_0 2 rfl rfl)
theorem dX0_handed_3 : decode cX0_handed 3 = .ok (.iload_n 1, 1) := dk_27 (dk_at dksX0_handed_0 3 rfl rfl)
theorem dX0_handed_4 : decode cX0_handed 4 = .ok (.iload_n 2, 1) := dk_28 (dk_at dksX0_handed_0 4 rfl rfl)
theorem dX0_handed_5 : decode cX0_handed 5 = .ok (.invokevirtual 49, 3) := dk_182 0 49 (dk_at dksX0_handed_0 5 rfl rfl)
theorem dX0_handed_8 : decode cX0_handed 8 = .ok (.i2l, 1) := dk_133 (dk_at dksX0_handed_0 8 rfl rfl)
theorem dX0_handed_9 : decode cX0_handed 9 = .ok (.lastore, 1) := dk_80 (dk_at dksX0_handed_0 9 rfl rfl)
theorem dX0_handed_10 : decode cX0_handed 10 = .ok (.goto 7, 3) := dk_167 0 7 (dk_at dksX0_handed_0 10 rfl rfl)
theorem dX0_handed_13 : decode cX0_handed 13 = .ok (.astore 4, 2) := dk_58 4 (dk_at dksX0_handed_0 13 rfl rfl)
theorem dX0_handed_15 : decode cX0_handed 15 = .ok (.iconst 1, 1) := dk_4 (dk_at dksX0_handed_0 15 rfl rfl)
theorem dX0_handed_16 : decode cX0_handed 16 = .ok (.ireturn, 1) := dk_172 (dk_at dksX0_handed_0 16 rfl rfl)
theorem dX0_handed_17 : decode cX0_handed 17 = .ok (.iconst 0, 1) := dk_3 (dk_at dksX0_handed_0 17 rfl rfl)
theorem dX0_handed_18 : decode cX0_handed 18 = .ok (.ireturn, 1) := dk_172 (dk_at dksX0_handed_0 18 rfl rfl)
abbrev cX0_benched : ByteArray := method_15_code
def yX0_benched : MethodName := ⟨RX0, "benched", "(LVowelChoir;I[J)I"⟩
def dkwX0_benched_0 : List UInt8 := [44, 3, 42, 27, 182, 0, 52, 133, 80, 167, 0, 6, 78, 4, 172, 3, 172]
abbrev dktX0_benched_0 : List UInt8 := dkwX0_benched_0 ++ []
theorem dksX0_benched_0 : cX0_benched.data.toList.drop 0 = dktX0_benched_0 := by decide +kernel
theorem dX0_benched_0 : decode cX0_benched 0 = .ok (.aload_n 2, 1) := dk_44 (dk_at dksX0_benched_0 0 rfl rfl)
theorem dX0_benched_1 : decode cX0_benched 1 = .ok (.iconst 0, 1) := dk_3 (dk_at dksX0_benched_0 1 rfl rfl)
theorem dX0_benched_2 : decode cX0_benched 2 = .ok (.aload_n 0, 1) := dk_42 (dk_at dksX0_benched_0 2 rfl rfl)
theorem dX0_benched_3 : decode cX0_benched 3 = .ok (.iload_n 1, 1) := dk_27 (dk_at dksX0_benched_0 3 rfl rfl)
theorem dX0_benched_4 : decode cX0_benched 4 = .ok (.invokevirtual 52, 3) := dk_182 0 52 (dk_at dksX0_benched_0 4 rfl rfl)
theorem dX0_benched_7 : decode cX0_benched 7 = .ok (.i2l, 1) := dk_133 (dk_at dksX0_benched_0 7 rfl rfl)
theorem dX0_benched_8 : decode cX0_benched 8 = .ok (.lastore, 1) := dk_80 (dk_at dksX0_benched_0 8 rfl rfl)
theorem dX0_benched_9 : decode cX0_benched 9 = .ok (.goto 6, 3) := dk_167 0 6 (dk_at dksX0_benched_0 9 rfl rfl)
theorem dX0_benched_12 : decode cX0_benched 12 = .ok (.astore_n 3, 1) := dk_78 (dk_at dksX0_benched_0 12 rfl rfl)
theorem dX0_benched_13 : decode cX0_benched 13 = .ok (.iconst 1, 1) := dk_4 (dk_at dksX0_benched_0 13 rfl rfl)
theorem dX0_benched_14 : decode cX0_benched 14 = .ok (.ireturn, 1) := dk_172 (dk_at dksX0_benched_0 14 rfl rfl)
theorem dX0_benched_15 : decode cX0_benched 15 = .ok (.iconst 0, 1) := dk_3 (dk_at dksX0_benched_0 15 rfl rfl)
theorem dX0_benched_16 : decode cX0_benched 16 = .ok (.ireturn, 1) := dk_172 (dk_at dksX0_benched_0 16 rfl rfl)
abbrev cX0_wordings : ByteArray := method_16_code
def yX0_wordings : MethodName := ⟨RX0, "wordings", "(LVowelChoir;I[J)I"⟩
def dkwX0_wordings_0 : List UInt8 := [44, 3, 42, 27, 182, 0, 55, 80, 167, 0, 6, 78, 4, 172, 3, 172]
abbrev dktX0_wordings_0 : List UInt8 := dkwX0_wordings_0 ++ []
theorem dksX0_wordings_0 : cX0_wordings.data.toList.drop 0 = dktX0_wordings_0 := by decide +kernel
theorem dX0_wordings_0 : decode cX0_wordings 0 = .ok (.aload_n 2, 1) := dk_44 (dk_at dksX0_wordings_0 0 rfl rfl)
theorem dX0_wordings_1 : decode cX0_wordings 1 = .ok (.iconst 0, 1) := dk_3 (dk_at dksX0_wordings_0 1 rfl rfl)
theorem dX0_wordings_2 : decode cX0_wordings 2 = .ok (.aload_n 0, 1) := dk_42 (dk_at dksX0_wordings_0 2 rfl rfl)
theorem dX0_wordings_3 : decode cX0_wordings 3 = .ok (.iload_n 1, 1) := dk_27 (dk_at dksX0_wordings_0 3 rfl rfl)
theorem dX0_wordings_4 : decode cX0_wordings 4 = .ok (.invokevirtual 55, 3) := dk_182 0 55 (dk_at dksX0_wordings_0 4 rfl rfl)
theorem dX0_wordings_7 : decode cX0_wordings 7 = .ok (.lastore, 1) := dk_80 (dk_at dksX0_wordings_0 7 rfl rfl)
theorem dX0_wordings_8 : decode cX0_wordings 8 = .ok (.goto 6, 3) := dk_167 0 6 (dk_at dksX0_wordings_0 8 rfl rfl)
theorem dX0_wordings_11 : decode cX0_wordings 11 = .ok (.astore_n 3, 1) := dk_78 (dk_at dksX0_wordings_0 11 rfl rfl)
theorem dX0_wordings_12 : decode cX0_wordings 12 = .ok (.iconst 1, 1) := dk_4 (dk_at dksX0_wordings_0 12 rfl rfl)
theorem dX0_wordings_13 : decode cX0_wordings 13 = .ok (.ireturn, 1) := dk_172 (dk_at dksX0_wordings_0 13 rfl rfl)
theorem dX0_wordings_14 : decode cX0_wordings 14 = .ok (.iconst 0, 1) := dk_3 (dk_at dksX0_wordings_0 14 rfl rfl)
theorem dX0_wordings_15 : decode cX0_wordings 15 = .ok (.ireturn, 1) := dk_172 (dk_at dksX0_wordings_0 15 rfl rfl)
abbrev cX0_who : ByteArray := method_17_code
def yX0_who : MethodName := ⟨RX0, "who", "(LVowelChoir;I[J)I"⟩
def dkwX0_who_0 : List UInt8 := [44, 3, 42, 27, 182, 0, 59, 133, 80, 167, 0, 6, 78, 4, 172, 3, 172]
abbrev dktX0_who_0 : List UInt8 := dkwX0_who_0 ++ []
theorem dksX0_who_0 : cX0_who.data.toList.drop 0 = dktX0_who_0 := by decide +kernel
theorem dX0_who_0 : decode cX0_who 0 = .ok (.aload_n 2, 1) := dk_44 (dk_at dksX0_who_0 0 rfl rfl)
theorem dX0_who_1 : decode cX0_who 1 = .ok (.iconst 0, 1) := dk_3 (dk_at dksX0_who_0 1 rfl rfl)
theorem dX0_who_2 : decode cX0_who 2 = .ok (.aload_n 0, 1) := dk_42 (dk_at dksX0_who_0 2 rfl rfl)
theorem dX0_who_3 : decode cX0_who 3 = .ok (.iload_n 1, 1) := dk_27 (dk_at dksX0_who_0 3 rfl rfl)
theorem dX0_who_4 : decode cX0_who 4 = .ok (.invokevirtual 59, 3) := dk_182 0 59 (dk_at dksX0_who_0 4 rfl rfl)
theorem dX0_who_7 : decode cX0_who 7 = .ok (.i2l, 1) := dk_133 (dk_at dksX0_who_0 7 rfl rfl)
theorem dX0_who_8 : decode cX0_who 8 = .ok (.lastore, 1) := dk_80 (dk_at dksX0_who_0 8 rfl rfl)
theorem dX0_who_9 : decode cX0_who 9 = .ok (.goto 6, 3) := dk_167 0 6 (dk_at dksX0_who_0 9 rfl rfl)
theorem dX0_who_12 : decode cX0_who 12 = .ok (.astore_n 3, 1) := dk_78 (dk_at dksX0_who_0 12 rfl rfl)
theorem dX0_who_13 : decode cX0_who 13 = .ok (.iconst 1, 1) := dk_4 (dk_at dksX0_who_0 13 rfl rfl)
theorem dX0_who_14 : decode cX0_who 14 = .ok (.ireturn, 1) := dk_172 (dk_at dksX0_who_0 14 rfl rfl)
theorem dX0_who_15 : decode cX0_who 15 = .ok (.iconst 0, 1) := dk_3 (dk_at dksX0_who_0 15 rfl rfl)
theorem dX0_who_16 : decode cX0_who 16 = .ok (.ireturn, 1) := dk_172 (dk_at dksX0_who_0 16 rfl rfl)
abbrev cX0_listen : ByteArray := method_18_code
def yX0_listen : MethodName := ⟨RX0, "listen", "(LVowelChoir;I[J)I"⟩
def dkwX0_listen_0 : List UInt8 := [44, 3, 42, 27, 182, 0, 62, 133, 80, 167, 0, 6, 78, 4, 172, 3, 172]
abbrev dktX0_listen_0 : List UInt8 := dkwX0_listen_0 ++ []
theorem dksX0_listen_0 : cX0_listen.data.toList.drop 0 = dktX0_listen_0 := by decide +kernel
theorem dX0_listen_0 : decode cX0_listen 0 = .ok (.aload_n 2, 1) := dk_44 (dk_at dksX0_listen_0 0 rfl rfl)
theorem dX0_listen_1 : decode cX0_listen 1 = .ok (.iconst 0, 1) := dk_3 (dk_at dksX0_listen_0 1 rfl rfl)
theorem dX0_listen_2 : decode cX0_listen 2 = .ok (.aload_n 0, 1) := dk_42 (dk_at dksX0_listen_0 2 rfl rfl)
theorem dX0_listen_3 : decode cX0_listen 3 = .ok (.iload_n 1, 1) := dk_27 (dk_at dksX0_listen_0 3 rfl rfl)
theorem dX0_listen_4 : decode cX0_listen 4 = .ok (.invokevirtual 62, 3) := dk_182 0 62 (dk_at dksX0_listen_0 4 rfl rfl)
theorem dX0_listen_7 : decode cX0_listen 7 = .ok (.i2l, 1) := dk_133 (dk_at dksX0_listen_0 7 rfl rfl)
theorem dX0_listen_8 : decode cX0_listen 8 = .ok (.lastore, 1) := dk_80 (dk_at dksX0_listen_0 8 rfl rfl)
theorem dX0_listen_9 : decode cX0_listen 9 = .ok (.goto 6, 3) := dk_167 0 6 (dk_at dksX0_listen_0 9 rfl rfl)
theorem dX0_listen_12 : decode cX0_listen 12 = .ok (.astore_n 3, 1) := dk_78 (dk_at dksX0_listen_0 12 rfl rfl)
theorem dX0_listen_13 : decode cX0_listen 13 = .ok (.iconst 1, 1) := dk_4 (dk_at dksX0_listen_0 13 rfl rfl)
theorem dX0_listen_14 : decode cX0_listen 14 = .ok (.ireturn, 1) := dk_172 (dk_at dksX0_listen_0 14 rfl rfl)
theorem dX0_listen_15 : decode cX0_listen 15 = .ok (.iconst 0, 1) := dk_3 (dk_at dksX0_listen_0 15 rfl rfl)
theorem dX0_listen_16 : decode cX0_listen 16 = .ok (.ireturn, 1) := dk_172 (dk_at dksX0_listen_0 16 rfl rfl)
abbrev cX0_duty : ByteArray := method_19_code
def yX0_duty : MethodName := ⟨RX0, "duty", "(LVowelChoir;I[J)I"⟩
def dkwX0_duty_0 : List UInt8 := [44, 3, 42, 27, 182, 0, 65, 133, 80, 167, 0, 6, 78, 4, 172, 3, 172]
abbrev dktX0_duty_0 : List UInt8 := dkwX0_duty_0 ++ []
theorem dksX0_duty_0 : cX0_duty.data.toList.drop 0 = dktX0_duty_0 := by decide +kernel
theorem dX0_duty_0 : decode cX0_duty 0 = .ok (.aload_n 2, 1) := dk_44 (dk_at dksX0_duty_0 0 rfl rfl)
theorem dX0_duty_1 : decode cX0_duty 1 = .ok (.iconst 0, 1) := dk_3 (dk_at dksX0_duty_0 1 rfl rfl)
theorem dX0_duty_2 : decode cX0_duty 2 = .ok (.aload_n 0, 1) := dk_42 (dk_at dksX0_duty_0 2 rfl rfl)
theorem dX0_duty_3 : decode cX0_duty 3 = .ok (.iload_n 1, 1) := dk_27 (dk_at dksX0_duty_0 3 rfl rfl)
theorem dX0_duty_4 : decode cX0_duty 4 = .ok (.invokevirtual 65, 3) := dk_182 0 65 (dk_at dksX0_duty_0 4 rfl rfl)
theorem dX0_duty_7 : decode cX0_duty 7 = .ok (.i2l, 1) := dk_133 (dk_at dksX0_duty_0 7 rfl rfl)
theorem dX0_duty_8 : decode cX0_duty 8 = .ok (.lastore, 1) := dk_80 (dk_at dksX0_duty_0 8 rfl rfl)
theorem dX0_duty_9 : decode cX0_duty 9 = .ok (.goto 6, 3) := dk_167 0 6 (dk_at dksX0_duty_0 9 rfl rfl)
theorem dX0_duty_12 : decode cX0_duty 12 = .ok (.astore_n 3, 1) := dk_78 (dk_at dksX0_duty_0 12 rfl rfl)
theorem dX0_duty_13 : decode cX0_duty 13 = .ok (.iconst 1, 1) := dk_4 (dk_at dksX0_duty_0 13 rfl rfl)
theorem dX0_duty_14 : decode cX0_duty 14 = .ok (.ireturn, 1) := dk_172 (dk_at dksX0_duty_0 14 rfl rfl)
theorem dX0_duty_15 : decode cX0_duty 15 = .ok (.iconst 0, 1) := dk_3 (dk_at dksX0_duty_0 15 rfl rfl)
theorem dX0_duty_16 : decode cX0_duty 16 = .ok (.ireturn, 1) := dk_172 (dk_at dksX0_duty_0 16 rfl rfl)
abbrev cX0_range : ByteArray := method_20_code
def yX0_range : MethodName := ⟨RX0, "range", "(LVowelChoir;I[J)I"⟩
def dkwX0_range_0 : List UInt8 := [44, 3, 42, 27, 182, 0, 68, 133, 80, 167, 0, 6, 78, 4, 172, 3, 172]
abbrev dktX0_range_0 : List UInt8 := dkwX0_range_0 ++ []
theorem dksX0_range_0 : cX0_range.data.toList.drop 0 = dktX0_range_0 := by decide +kernel
theorem dX0_range_0 : decode cX0_range 0 = .ok (.aload_n 2, 1) := dk_44 (dk_at dksX0_range_0 0 rfl rfl)
theorem dX0_range_1 : decode cX0_range 1 = .ok (.iconst 0, 1) := dk_3 (dk_at dksX0_range_0 1 rfl rfl)
theorem dX0_range_2 : decode cX0_range 2 = .ok (.aload_n 0, 1) := dk_42 (dk_at dksX0_range_0 2 rfl rfl)
theorem dX0_range_3 : decode cX0_range 3 = .ok (.iload_n 1, 1) := dk_27 (dk_at dksX0_range_0 3 rfl rfl)
theorem dX0_range_4 : decode cX0_range 4 = .ok (.invokevirtual 68, 3) := dk_182 0 68 (dk_at dksX0_range_0 4 rfl rfl)
theorem dX0_range_7 : decode cX0_range 7 = .ok (.i2l, 1) := dk_133 (dk_at dksX0_range_0 7 rfl rfl)
theorem dX0_range_8 : decode cX0_range 8 = .ok (.lastore, 1) := dk_80 (dk_at dksX0_range_0 8 rfl rfl)
theorem dX0_range_9 : decode cX0_range 9 = .ok (.goto 6, 3) := dk_167 0 6 (dk_at dksX0_range_0 9 rfl rfl)
theorem dX0_range_12 : decode cX0_range 12 = .ok (.astore_n 3, 1) := dk_78 (dk_at dksX0_range_0 12 rfl rfl)
theorem dX0_range_13 : decode cX0_range 13 = .ok (.iconst 1, 1) := dk_4 (dk_at dksX0_range_0 13 rfl rfl)
theorem dX0_range_14 : decode cX0_range 14 = .ok (.ireturn, 1) := dk_172 (dk_at dksX0_range_0 14 rfl rfl)
theorem dX0_range_15 : decode cX0_range 15 = .ok (.iconst 0, 1) := dk_3 (dk_at dksX0_range_0 15 rfl rfl)
theorem dX0_range_16 : decode cX0_range 16 = .ok (.ireturn, 1) := dk_172 (dk_at dksX0_range_0 16 rfl rfl)
abbrev cX0_quarrel : ByteArray := method_21_code
def yX0_quarrel : MethodName := ⟨RX0, "quarrel", "(LVowelChoir;III[J)I"⟩
def dkwX0_quarrel_0 : List UInt8 := [25, 4, 3, 42, 27, 28, 29, 182, 0, 71, 133, 80, 167, 0, 7, 58, 5, 4, 172, 3, 172]
abbrev dktX0_quarrel_0 : List UInt8 := dkwX0_quarrel_0 ++ []
theorem dksX0_quarrel_0 : cX0_quarrel.data.toList.drop 0 = dktX0_quarrel_0 := by decide +kernel
theorem dX0_quarrel_0 : decode cX0_quarrel 0 = .ok (.aload 4, 2) := dk_25 4 (dk_at dksX0_quarrel_0 0 rfl rfl)
theorem dX0_quarrel_2 : decode cX0_quarrel 2 = .ok (.iconst 0, 1) := dk_3 (dk_at dksX0_quarrel_0 2 rfl rfl)
theorem dX0_quarrel_3 : decode cX0_quarrel 3 = .ok (.aload_n 0, 1) := dk_42 (dk_at dksX0_quarrel_0 3 rfl rfl)
theorem dX0_quarrel_4 : decode cX0_quarrel 4 = .ok (.iload_n 1, 1) := dk_27 (dk_at dksX0_quarrel_0 4 rfl rfl)
theorem dX0_quarrel_5 : decode cX0_quarrel 5 = .ok (.iload_n 2, 1) := dk_28 (dk_at dksX0_quarrel_0 5 rfl rfl)
theorem dX0_quarrel_6 : decode cX0_quarrel 6 = .ok (.iload_n 3, 1) := dk_29 (dk_at dksX0_quarrel_0 6 rfl rfl)
theorem dX0_quarrel_7 : decode cX0_quarrel 7 = .ok (.invokevirtual 71, 3) := dk_182 0 71 (dk_at dksX0_quarrel_0 7 rfl rfl)
theorem dX0_quarrel_10 : decode cX0_quarrel 10 = .ok (.i2l, 1) := dk_133 (dk_at dksX0_quarrel_0 10 rfl rfl)
theorem dX0_quarrel_11 : decode cX0_quarrel 11 = .ok (.lastore, 1) := dk_80 (dk_at dksX0_quarrel_0 11 rfl rfl)
theorem dX0_quarrel_12 : decode cX0_quarrel 12 = .ok (.goto 7, 3) := dk_167 0 7 (dk_at dksX0_quarrel_0 12 rfl rfl)
theorem dX0_quarrel_15 : decode cX0_quarrel 15 = .ok (.astore 5, 2) := dk_58 5 (dk_at dksX0_quarrel_0 15 rfl rfl)
theorem dX0_quarrel_17 : decode cX0_quarrel 17 = .ok (.iconst 1, 1) := dk_4 (dk_at dksX0_quarrel_0 17 rfl rfl)
theorem dX0_quarrel_18 : decode cX0_quarrel 18 = .ok (.ireturn, 1) := dk_172 (dk_at dksX0_quarrel_0 18 rfl rfl)
theorem dX0_quarrel_19 : decode cX0_quarrel 19 = .ok (.iconst 0, 1) := dk_3 (dk_at dksX0_quarrel_0 19 rfl rfl)
theorem dX0_quarrel_20 : decode cX0_quarrel 20 = .ok (.ireturn, 1) := dk_172 (dk_at dksX0_quarrel_0 20 rfl rfl)
abbrev cX0_enough : ByteArray := method_22_code
def yX0_enough : MethodName := ⟨RX0, "enough", "(LVowelChoir;IIII[J)I"⟩
def dkwX0_enough_0 : List UInt8 := [25, 5, 3, 42, 27, 28, 29, 21, 4, 182, 0, 75, 80, 167, 0, 7, 58, 6, 4, 172, 3, 172]
abbrev dktX0_enough_0 : List UInt8 := dkwX0_enough_0 ++ []
theorem dksX0_enough_0 : cX0_enough.data.toList.drop 0 = dktX0_enough_0 := by decide +kernel
theorem dX0_enough_0 : decode cX0_enough 0 = .ok (.aload 5, 2) := dk_25 5 (dk_at dksX0_enough_0 0 rfl rfl)
theorem dX0_enough_2 : decode cX0_enough 2 = .ok (.iconst 0, 1) := dk_3 (dk_at dksX0_enough_0 2 rfl rfl)
theorem dX0_enough_3 : decode cX0_enough 3 = .ok (.aload_n 0, 1) := dk_42 (dk_at dksX0_enough_0 3 rfl rfl)
theorem dX0_enough_4 : decode cX0_enough 4 = .ok (.iload_n 1, 1) := dk_27 (dk_at dksX0_enough_0 4 rfl rfl)
theorem dX0_enough_5 : decode cX0_enough 5 = .ok (.iload_n 2, 1) := dk_28 (dk_at dksX0_enough_0 5 rfl rfl)
theorem dX0_enough_6 : decode cX0_enough 6 = .ok (.iload_n 3, 1) := dk_29 (dk_at dksX0_enough_0 6 rfl rfl)
theorem dX0_enough_7 : decode cX0_enough 7 = .ok (.iload 4, 2) := dk_21 4 (dk_at dksX0_enough_0 7 rfl rfl)
theorem dX0_enough_9 : decode cX0_enough 9 = .ok (.invokevirtual 75, 3) := dk_182 0 75 (dk_at dksX0_enough_0 9 rfl rfl)
theorem dX0_enough_12 : decode cX0_enough 12 = .ok (.lastore, 1) := dk_80 (dk_at dksX0_enough_0 12 rfl rfl)
theorem dX0_enough_13 : decode cX0_enough 13 = .ok (.goto 7, 3) := dk_167 0 7 (dk_at dksX0_enough_0 13 rfl rfl)
theorem dX0_enough_16 : decode cX0_enough 16 = .ok (.astore 6, 2) := dk_58 6 (dk_at dksX0_enough_0 16 rfl rfl)
theorem dX0_enough_18 : decode cX0_enough 18 = .ok (.iconst 1, 1) := dk_4 (dk_at dksX0_enough_0 18 rfl rfl)
theorem dX0_enough_19 : decode cX0_enough 19 = .ok (.ireturn, 1) := dk_172 (dk_at dksX0_enough_0 19 rfl rfl)
theorem dX0_enough_20 : decode cX0_enough 20 = .ok (.iconst 0, 1) := dk_3 (dk_at dksX0_enough_0 20 rfl rfl)
theorem dX0_enough_21 : decode cX0_enough 21 = .ok (.ireturn, 1) := dk_172 (dk_at dksX0_enough_0 21 rfl rfl)
abbrev cX0_rent : ByteArray := method_23_code
def yX0_rent : MethodName := ⟨RX0, "rent", "(LVowelChoir;III[J)I"⟩
def dkwX0_rent_1 : List UInt8 := [172]
abbrev dktX0_rent_1 : List UInt8 := dkwX0_rent_1 ++ []
def dkwX0_rent_0 : List UInt8 := [25, 4, 3, 42, 27, 28, 29, 182, 0, 79, 133, 80, 167, 0, 11, 58, 5, 4, 172, 58, 5, 5, 172, 3]
abbrev dktX0_rent_0 : List UInt8 := dkwX0_rent_0 ++ dktX0_rent_1
theorem dksX0_rent_0 : cX0_rent.data.toList.drop 0 = dktX0_rent_0 := by decide +kernel
theorem dksX0_rent_1 : cX0_rent.data.toList.drop 24 = dktX0_rent_1 := dk_seg dksX0_rent_0 24 rfl rfl
theorem dX0_rent_0 : decode cX0_rent 0 = .ok (.aload 4, 2) := dk_25 4 (dk_at dksX0_rent_0 0 rfl rfl)
theorem dX0_rent_2 : decode cX0_rent 2 = .ok (.iconst 0, 1) := dk_3 (dk_at dksX0_rent_0 2 rfl rfl)
theorem dX0_rent_3 : decode cX0_rent 3 = .ok (.aload_n 0, 1) := dk_42 (dk_at dksX0_rent_0 3 rfl rfl)
theorem dX0_rent_4 : decode cX0_rent 4 = .ok (.iload_n 1, 1) := dk_27 (dk_at dksX0_rent_0 4 rfl rfl)
theorem dX0_rent_5 : decode cX0_rent 5 = .ok (.iload_n 2, 1) := dk_28 (dk_at dksX0_rent_0 5 rfl rfl)
theorem dX0_rent_6 : decode cX0_rent 6 = .ok (.iload_n 3, 1) := dk_29 (dk_at dksX0_rent_0 6 rfl rfl)
theorem dX0_rent_7 : decode cX0_rent 7 = .ok (.invokevirtual 79, 3) := dk_182 0 79 (dk_at dksX0_rent_0 7 rfl rfl)
theorem dX0_rent_10 : decode cX0_rent 10 = .ok (.i2l, 1) := dk_133 (dk_at dksX0_rent_0 10 rfl rfl)
theorem dX0_rent_11 : decode cX0_rent 11 = .ok (.lastore, 1) := dk_80 (dk_at dksX0_rent_0 11 rfl rfl)
theorem dX0_rent_12 : decode cX0_rent 12 = .ok (.goto 11, 3) := dk_167 0 11 (dk_at dksX0_rent_0 12 rfl rfl)
theorem dX0_rent_15 : decode cX0_rent 15 = .ok (.astore 5, 2) := dk_58 5 (dk_at dksX0_rent_0 15 rfl rfl)
theorem dX0_rent_17 : decode cX0_rent 17 = .ok (.iconst 1, 1) := dk_4 (dk_at dksX0_rent_0 17 rfl rfl)
theorem dX0_rent_18 : decode cX0_rent 18 = .ok (.ireturn, 1) := dk_172 (dk_at dksX0_rent_0 18 rfl rfl)
theorem dX0_rent_19 : decode cX0_rent 19 = .ok (.astore 5, 2) := dk_58 5 (dk_at dksX0_rent_0 19 rfl rfl)
theorem dX0_rent_21 : decode cX0_rent 21 = .ok (.iconst 2, 1) := dk_5 (dk_at dksX0_rent_0 21 rfl rfl)
theorem dX0_rent_22 : decode cX0_rent 22 = .ok (.ireturn, 1) := dk_172 (dk_at dksX0_rent_0 22 rfl rfl)
theorem dX0_rent_23 : decode cX0_rent 23 = .ok (.iconst 0, 1) := dk_3 (dk_at dksX0_rent_0 23 rfl rfl)
theorem dX0_rent_24 : decode cX0_rent 24 = .ok (.ireturn, 1) := dk_172 (dk_at dksX0_rent_1 0 rfl rfl)
abbrev cX0_dearest : ByteArray := method_24_code
def yX0_dearest : MethodName := ⟨RX0, "dearest", "(LVowelChoir;I[J)I"⟩
def dkwX0_dearest_0 : List UInt8 := [44, 3, 42, 27, 182, 0, 82, 133, 80, 167, 0, 6, 78, 4, 172, 3, 172]
abbrev dktX0_dearest_0 : List UInt8 := dkwX0_dearest_0 ++ []
theorem dksX0_dearest_0 : cX0_dearest.data.toList.drop 0 = dktX0_dearest_0 := by decide +kernel
theorem dX0_dearest_0 : decode cX0_dearest 0 = .ok (.aload_n 2, 1) := dk_44 (dk_at dksX0_dearest_0 0 rfl rfl)
theorem dX0_dearest_1 : decode cX0_dearest 1 = .ok (.iconst 0, 1) := dk_3 (dk_at dksX0_dearest_0 1 rfl rfl)
theorem dX0_dearest_2 : decode cX0_dearest 2 = .ok (.aload_n 0, 1) := dk_42 (dk_at dksX0_dearest_0 2 rfl rfl)
theorem dX0_dearest_3 : decode cX0_dearest 3 = .ok (.iload_n 1, 1) := dk_27 (dk_at dksX0_dearest_0 3 rfl rfl)
theorem dX0_dearest_4 : decode cX0_dearest 4 = .ok (.invokevirtual 82, 3) := dk_182 0 82 (dk_at dksX0_dearest_0 4 rfl rfl)
theorem dX0_dearest_7 : decode cX0_dearest 7 = .ok (.i2l, 1) := dk_133 (dk_at dksX0_dearest_0 7 rfl rfl)
theorem dX0_dearest_8 : decode cX0_dearest 8 = .ok (.lastore, 1) := dk_80 (dk_at dksX0_dearest_0 8 rfl rfl)
theorem dX0_dearest_9 : decode cX0_dearest 9 = .ok (.goto 6, 3) := dk_167 0 6 (dk_at dksX0_dearest_0 9 rfl rfl)
theorem dX0_dearest_12 : decode cX0_dearest 12 = .ok (.astore_n 3, 1) := dk_78 (dk_at dksX0_dearest_0 12 rfl rfl)
theorem dX0_dearest_13 : decode cX0_dearest 13 = .ok (.iconst 1, 1) := dk_4 (dk_at dksX0_dearest_0 13 rfl rfl)
theorem dX0_dearest_14 : decode cX0_dearest 14 = .ok (.ireturn, 1) := dk_172 (dk_at dksX0_dearest_0 14 rfl rfl)
theorem dX0_dearest_15 : decode cX0_dearest 15 = .ok (.iconst 0, 1) := dk_3 (dk_at dksX0_dearest_0 15 rfl rfl)
theorem dX0_dearest_16 : decode cX0_dearest 16 = .ok (.ireturn, 1) := dk_172 (dk_at dksX0_dearest_0 16 rfl rfl)
abbrev cX0_voices : ByteArray := method_25_code
def yX0_voices : MethodName := ⟨RX0, "voices", "(LVowelChoir;I[J)I"⟩
def dkwX0_voices_0 : List UInt8 := [44, 3, 42, 27, 182, 0, 85, 133, 80, 167, 0, 6, 78, 4, 172, 3, 172]
abbrev dktX0_voices_0 : List UInt8 := dkwX0_voices_0 ++ []
theorem dksX0_voices_0 : cX0_voices.data.toList.drop 0 = dktX0_voices_0 := by decide +kernel
theorem dX0_voices_0 : decode cX0_voices 0 = .ok (.aload_n 2, 1) := dk_44 (dk_at dksX0_voices_0 0 rfl rfl)
theorem dX0_voices_1 : decode cX0_voices 1 = .ok (.iconst 0, 1) := dk_3 (dk_at dksX0_voices_0 1 rfl rfl)
theorem dX0_voices_2 : decode cX0_voices 2 = .ok (.aload_n 0, 1) := dk_42 (dk_at dksX0_voices_0 2 rfl rfl)
theorem dX0_voices_3 : decode cX0_voices 3 = .ok (.iload_n 1, 1) := dk_27 (dk_at dksX0_voices_0 3 rfl rfl)
theorem dX0_voices_4 : decode cX0_voices 4 = .ok (.invokevirtual 85, 3) := dk_182 0 85 (dk_at dksX0_voices_0 4 rfl rfl)
theorem dX0_voices_7 : decode cX0_voices 7 = .ok (.i2l, 1) := dk_133 (dk_at dksX0_voices_0 7 rfl rfl)
theorem dX0_voices_8 : decode cX0_voices 8 = .ok (.lastore, 1) := dk_80 (dk_at dksX0_voices_0 8 rfl rfl)
theorem dX0_voices_9 : decode cX0_voices 9 = .ok (.goto 6, 3) := dk_167 0 6 (dk_at dksX0_voices_0 9 rfl rfl)
theorem dX0_voices_12 : decode cX0_voices 12 = .ok (.astore_n 3, 1) := dk_78 (dk_at dksX0_voices_0 12 rfl rfl)
theorem dX0_voices_13 : decode cX0_voices 13 = .ok (.iconst 1, 1) := dk_4 (dk_at dksX0_voices_0 13 rfl rfl)
theorem dX0_voices_14 : decode cX0_voices 14 = .ok (.ireturn, 1) := dk_172 (dk_at dksX0_voices_0 14 rfl rfl)
theorem dX0_voices_15 : decode cX0_voices 15 = .ok (.iconst 0, 1) := dk_3 (dk_at dksX0_voices_0 15 rfl rfl)
theorem dX0_voices_16 : decode cX0_voices 16 = .ok (.ireturn, 1) := dk_172 (dk_at dksX0_voices_0 16 rfl rfl)
abbrev cX0_sounds : ByteArray := method_26_code
def yX0_sounds : MethodName := ⟨RX0, "sounds", "(LVowelChoir;I[J)I"⟩
def dkwX0_sounds_0 : List UInt8 := [44, 3, 42, 27, 182, 0, 88, 133, 80, 167, 0, 6, 78, 4, 172, 3, 172]
abbrev dktX0_sounds_0 : List UInt8 := dkwX0_sounds_0 ++ []
theorem dksX0_sounds_0 : cX0_sounds.data.toList.drop 0 = dktX0_sounds_0 := by decide +kernel
theorem dX0_sounds_0 : decode cX0_sounds 0 = .ok (.aload_n 2, 1) := dk_44 (dk_at dksX0_sounds_0 0 rfl rfl)
theorem dX0_sounds_1 : decode cX0_sounds 1 = .ok (.iconst 0, 1) := dk_3 (dk_at dksX0_sounds_0 1 rfl rfl)
theorem dX0_sounds_2 : decode cX0_sounds 2 = .ok (.aload_n 0, 1) := dk_42 (dk_at dksX0_sounds_0 2 rfl rfl)
theorem dX0_sounds_3 : decode cX0_sounds 3 = .ok (.iload_n 1, 1) := dk_27 (dk_at dksX0_sounds_0 3 rfl rfl)
theorem dX0_sounds_4 : decode cX0_sounds 4 = .ok (.invokevirtual 88, 3) := dk_182 0 88 (dk_at dksX0_sounds_0 4 rfl rfl)
theorem dX0_sounds_7 : decode cX0_sounds 7 = .ok (.i2l, 1) := dk_133 (dk_at dksX0_sounds_0 7 rfl rfl)
theorem dX0_sounds_8 : decode cX0_sounds 8 = .ok (.lastore, 1) := dk_80 (dk_at dksX0_sounds_0 8 rfl rfl)
theorem dX0_sounds_9 : decode cX0_sounds 9 = .ok (.goto 6, 3) := dk_167 0 6 (dk_at dksX0_sounds_0 9 rfl rfl)
theorem dX0_sounds_12 : decode cX0_sounds 12 = .ok (.astore_n 3, 1) := dk_78 (dk_at dksX0_sounds_0 12 rfl rfl)
theorem dX0_sounds_13 : decode cX0_sounds 13 = .ok (.iconst 1, 1) := dk_4 (dk_at dksX0_sounds_0 13 rfl rfl)
theorem dX0_sounds_14 : decode cX0_sounds 14 = .ok (.ireturn, 1) := dk_172 (dk_at dksX0_sounds_0 14 rfl rfl)
theorem dX0_sounds_15 : decode cX0_sounds 15 = .ok (.iconst 0, 1) := dk_3 (dk_at dksX0_sounds_0 15 rfl rfl)
theorem dX0_sounds_16 : decode cX0_sounds 16 = .ok (.ireturn, 1) := dk_172 (dk_at dksX0_sounds_0 16 rfl rfl)
abbrev cX0_beats : ByteArray := method_27_code
def yX0_beats : MethodName := ⟨RX0, "beats", "(LVowelChoir;I[J)I"⟩
def dkwX0_beats_0 : List UInt8 := [44, 3, 42, 27, 182, 0, 91, 133, 80, 167, 0, 6, 78, 4, 172, 3, 172]
abbrev dktX0_beats_0 : List UInt8 := dkwX0_beats_0 ++ []
theorem dksX0_beats_0 : cX0_beats.data.toList.drop 0 = dktX0_beats_0 := by decide +kernel
theorem dX0_beats_0 : decode cX0_beats 0 = .ok (.aload_n 2, 1) := dk_44 (dk_at dksX0_beats_0 0 rfl rfl)
theorem dX0_beats_1 : decode cX0_beats 1 = .ok (.iconst 0, 1) := dk_3 (dk_at dksX0_beats_0 1 rfl rfl)
theorem dX0_beats_2 : decode cX0_beats 2 = .ok (.aload_n 0, 1) := dk_42 (dk_at dksX0_beats_0 2 rfl rfl)
theorem dX0_beats_3 : decode cX0_beats 3 = .ok (.iload_n 1, 1) := dk_27 (dk_at dksX0_beats_0 3 rfl rfl)
theorem dX0_beats_4 : decode cX0_beats 4 = .ok (.invokevirtual 91, 3) := dk_182 0 91 (dk_at dksX0_beats_0 4 rfl rfl)
theorem dX0_beats_7 : decode cX0_beats 7 = .ok (.i2l, 1) := dk_133 (dk_at dksX0_beats_0 7 rfl rfl)
theorem dX0_beats_8 : decode cX0_beats 8 = .ok (.lastore, 1) := dk_80 (dk_at dksX0_beats_0 8 rfl rfl)
theorem dX0_beats_9 : decode cX0_beats 9 = .ok (.goto 6, 3) := dk_167 0 6 (dk_at dksX0_beats_0 9 rfl rfl)
theorem dX0_beats_12 : decode cX0_beats 12 = .ok (.astore_n 3, 1) := dk_78 (dk_at dksX0_beats_0 12 rfl rfl)
theorem dX0_beats_13 : decode cX0_beats 13 = .ok (.iconst 1, 1) := dk_4 (dk_at dksX0_beats_0 13 rfl rfl)
theorem dX0_beats_14 : decode cX0_beats 14 = .ok (.ireturn, 1) := dk_172 (dk_at dksX0_beats_0 14 rfl rfl)
theorem dX0_beats_15 : decode cX0_beats 15 = .ok (.iconst 0, 1) := dk_3 (dk_at dksX0_beats_0 15 rfl rfl)
theorem dX0_beats_16 : decode cX0_beats 16 = .ok (.ireturn, 1) := dk_172 (dk_at dksX0_beats_0 16 rfl rfl)
abbrev cX0_words : ByteArray := method_28_code
def yX0_words : MethodName := ⟨RX0, "words", "(LVowelChoir;I[J)I"⟩
def dkwX0_words_0 : List UInt8 := [44, 3, 42, 27, 182, 0, 94, 133, 80, 167, 0, 6, 78, 4, 172, 3, 172]
abbrev dktX0_words_0 : List UInt8 := dkwX0_words_0 ++ []
theorem dksX0_words_0 : cX0_words.data.toList.drop 0 = dktX0_words_0 := by decide +kernel
theorem dX0_words_0 : decode cX0_words 0 = .ok (.aload_n 2, 1) := dk_44 (dk_at dksX0_words_0 0 rfl rfl)
theorem dX0_words_1 : decode cX0_words 1 = .ok (.iconst 0, 1) := dk_3 (dk_at dksX0_words_0 1 rfl rfl)
theorem dX0_words_2 : decode cX0_words 2 = .ok (.aload_n 0, 1) := dk_42 (dk_at dksX0_words_0 2 rfl rfl)
theorem dX0_words_3 : decode cX0_words 3 = .ok (.iload_n 1, 1) := dk_27 (dk_at dksX0_words_0 3 rfl rfl)
theorem dX0_words_4 : decode cX0_words 4 = .ok (.invokevirtual 94, 3) := dk_182 0 94 (dk_at dksX0_words_0 4 rfl rfl)
theorem dX0_words_7 : decode cX0_words 7 = .ok (.i2l, 1) := dk_133 (dk_at dksX0_words_0 7 rfl rfl)
theorem dX0_words_8 : decode cX0_words 8 = .ok (.lastore, 1) := dk_80 (dk_at dksX0_words_0 8 rfl rfl)
theorem dX0_words_9 : decode cX0_words 9 = .ok (.goto 6, 3) := dk_167 0 6 (dk_at dksX0_words_0 9 rfl rfl)
theorem dX0_words_12 : decode cX0_words 12 = .ok (.astore_n 3, 1) := dk_78 (dk_at dksX0_words_0 12 rfl rfl)
theorem dX0_words_13 : decode cX0_words 13 = .ok (.iconst 1, 1) := dk_4 (dk_at dksX0_words_0 13 rfl rfl)
theorem dX0_words_14 : decode cX0_words 14 = .ok (.ireturn, 1) := dk_172 (dk_at dksX0_words_0 14 rfl rfl)
theorem dX0_words_15 : decode cX0_words 15 = .ok (.iconst 0, 1) := dk_3 (dk_at dksX0_words_0 15 rfl rfl)
theorem dX0_words_16 : decode cX0_words 16 = .ok (.ireturn, 1) := dk_172 (dk_at dksX0_words_0 16 rfl rfl)
abbrev cX0_alone : ByteArray := method_29_code
def yX0_alone : MethodName := ⟨RX0, "alone", "(LVowelChoir;I[J)I"⟩
def dkwX0_alone_0 : List UInt8 := [44, 3, 42, 27, 182, 0, 97, 133, 80, 167, 0, 6, 78, 4, 172, 3, 172]
abbrev dktX0_alone_0 : List UInt8 := dkwX0_alone_0 ++ []
theorem dksX0_alone_0 : cX0_alone.data.toList.drop 0 = dktX0_alone_0 := by decide +kernel
theorem dX0_alone_0 : decode cX0_alone 0 = .ok (.aload_n 2, 1) := dk_44 (dk_at dksX0_alone_0 0 rfl rfl)
theorem dX0_alone_1 : decode cX0_alone 1 = .ok (.iconst 0, 1) := dk_3 (dk_at dksX0_alone_0 1 rfl rfl)
theorem dX0_alone_2 : decode cX0_alone 2 = .ok (.aload_n 0, 1) := dk_42 (dk_at dksX0_alone_0 2 rfl rfl)
theorem dX0_alone_3 : decode cX0_alone 3 = .ok (.iload_n 1, 1) := dk_27 (dk_at dksX0_alone_0 3 rfl rfl)
theorem dX0_alone_4 : decode cX0_alone 4 = .ok (.invokevirtual 97, 3) := dk_182 0 97 (dk_at dksX0_alone_0 4 rfl rfl)
theorem dX0_alone_7 : decode cX0_alone 7 = .ok (.i2l, 1) := dk_133 (dk_at dksX0_alone_0 7 rfl rfl)
theorem dX0_alone_8 : decode cX0_alone 8 = .ok (.lastore, 1) := dk_80 (dk_at dksX0_alone_0 8 rfl rfl)
theorem dX0_alone_9 : decode cX0_alone 9 = .ok (.goto 6, 3) := dk_167 0 6 (dk_at dksX0_alone_0 9 rfl rfl)
theorem dX0_alone_12 : decode cX0_alone 12 = .ok (.astore_n 3, 1) := dk_78 (dk_at dksX0_alone_0 12 rfl rfl)
theorem dX0_alone_13 : decode cX0_alone 13 = .ok (.iconst 1, 1) := dk_4 (dk_at dksX0_alone_0 13 rfl rfl)
theorem dX0_alone_14 : decode cX0_alone 14 = .ok (.ireturn, 1) := dk_172 (dk_at dksX0_alone_0 14 rfl rfl)
theorem dX0_alone_15 : decode cX0_alone 15 = .ok (.iconst 0, 1) := dk_3 (dk_at dksX0_alone_0 15 rfl rfl)
theorem dX0_alone_16 : decode cX0_alone 16 = .ok (.ireturn, 1) := dk_172 (dk_at dksX0_alone_0 16 rfl rfl)
abbrev cX0_longest : ByteArray := method_30_code
def yX0_longest : MethodName := ⟨RX0, "longest", "(LVowelChoir;I[J)I"⟩
def dkwX0_longest_0 : List UInt8 := [44, 3, 42, 27, 182, 0, 100, 133, 80, 167, 0, 6, 78, 4, 172, 3, 172]
abbrev dktX0_longest_0 : List UInt8 := dkwX0_longest_0 ++ []
theorem dksX0_longest_0 : cX0_longest.data.toList.drop 0 = dktX0_longest_0 := by decide +kernel
theorem dX0_longest_0 : decode cX0_longest 0 = .ok (.aload_n 2, 1) := dk_44 (dk_at dksX0_longest_0 0 rfl rfl)
theorem dX0_longest_1 : decode cX0_longest 1 = .ok (.iconst 0, 1) := dk_3 (dk_at dksX0_longest_0 1 rfl rfl)
theorem dX0_longest_2 : decode cX0_longest 2 = .ok (.aload_n 0, 1) := dk_42 (dk_at dksX0_longest_0 2 rfl rfl)
theorem dX0_longest_3 : decode cX0_longest 3 = .ok (.iload_n 1, 1) := dk_27 (dk_at dksX0_longest_0 3 rfl rfl)
theorem dX0_longest_4 : decode cX0_longest 4 = .ok (.invokevirtual 100, 3) := dk_182 0 100 (dk_at dksX0_longest_0 4 rfl rfl)
theorem dX0_longest_7 : decode cX0_longest 7 = .ok (.i2l, 1) := dk_133 (dk_at dksX0_longest_0 7 rfl rfl)
theorem dX0_longest_8 : decode cX0_longest 8 = .ok (.lastore, 1) := dk_80 (dk_at dksX0_longest_0 8 rfl rfl)
theorem dX0_longest_9 : decode cX0_longest 9 = .ok (.goto 6, 3) := dk_167 0 6 (dk_at dksX0_longest_0 9 rfl rfl)
theorem dX0_longest_12 : decode cX0_longest 12 = .ok (.astore_n 3, 1) := dk_78 (dk_at dksX0_longest_0 12 rfl rfl)
theorem dX0_longest_13 : decode cX0_longest 13 = .ok (.iconst 1, 1) := dk_4 (dk_at dksX0_longest_0 13 rfl rfl)
theorem dX0_longest_14 : decode cX0_longest 14 = .ok (.ireturn, 1) := dk_172 (dk_at dksX0_longest_0 14 rfl rfl)
theorem dX0_longest_15 : decode cX0_longest 15 = .ok (.iconst 0, 1) := dk_3 (dk_at dksX0_longest_0 15 rfl rfl)
theorem dX0_longest_16 : decode cX0_longest 16 = .ok (.ireturn, 1) := dk_172 (dk_at dksX0_longest_0 16 rfl rfl)
abbrev cX0_chorus : ByteArray := method_31_code
def yX0_chorus : MethodName := ⟨RX0, "chorus", "(LVowelChoir;I[J)I"⟩
def dkwX0_chorus_0 : List UInt8 := [44, 3, 42, 27, 182, 0, 103, 133, 80, 167, 0, 6, 78, 4, 172, 3, 172]
abbrev dktX0_chorus_0 : List UInt8 := dkwX0_chorus_0 ++ []
theorem dksX0_chorus_0 : cX0_chorus.data.toList.drop 0 = dktX0_chorus_0 := by decide +kernel
theorem dX0_chorus_0 : decode cX0_chorus 0 = .ok (.aload_n 2, 1) := dk_44 (dk_at dksX0_chorus_0 0 rfl rfl)
theorem dX0_chorus_1 : decode cX0_chorus 1 = .ok (.iconst 0, 1) := dk_3 (dk_at dksX0_chorus_0 1 rfl rfl)
theorem dX0_chorus_2 : decode cX0_chorus 2 = .ok (.aload_n 0, 1) := dk_42 (dk_at dksX0_chorus_0 2 rfl rfl)
theorem dX0_chorus_3 : decode cX0_chorus 3 = .ok (.iload_n 1, 1) := dk_27 (dk_at dksX0_chorus_0 3 rfl rfl)
theorem dX0_chorus_4 : decode cX0_chorus 4 = .ok (.invokevirtual 103, 3) := dk_182 0 103 (dk_at dksX0_chorus_0 4 rfl rfl)
theorem dX0_chorus_7 : decode cX0_chorus 7 = .ok (.i2l, 1) := dk_133 (dk_at dksX0_chorus_0 7 rfl rfl)
theorem dX0_chorus_8 : decode cX0_chorus 8 = .ok (.lastore, 1) := dk_80 (dk_at dksX0_chorus_0 8 rfl rfl)
theorem dX0_chorus_9 : decode cX0_chorus 9 = .ok (.goto 6, 3) := dk_167 0 6 (dk_at dksX0_chorus_0 9 rfl rfl)
theorem dX0_chorus_12 : decode cX0_chorus 12 = .ok (.astore_n 3, 1) := dk_78 (dk_at dksX0_chorus_0 12 rfl rfl)
theorem dX0_chorus_13 : decode cX0_chorus 13 = .ok (.iconst 1, 1) := dk_4 (dk_at dksX0_chorus_0 13 rfl rfl)
theorem dX0_chorus_14 : decode cX0_chorus 14 = .ok (.ireturn, 1) := dk_172 (dk_at dksX0_chorus_0 14 rfl rfl)
theorem dX0_chorus_15 : decode cX0_chorus 15 = .ok (.iconst 0, 1) := dk_3 (dk_at dksX0_chorus_0 15 rfl rfl)
theorem dX0_chorus_16 : decode cX0_chorus 16 = .ok (.ireturn, 1) := dk_172 (dk_at dksX0_chorus_0 16 rfl rfl)
abbrev cX0_spare : ByteArray := method_32_code
def yX0_spare : MethodName := ⟨RX0, "spare", "(LVowelChoir;I[J)I"⟩
def dkwX0_spare_0 : List UInt8 := [44, 3, 42, 27, 182, 0, 106, 133, 80, 167, 0, 6, 78, 4, 172, 3, 172]
abbrev dktX0_spare_0 : List UInt8 := dkwX0_spare_0 ++ []
theorem dksX0_spare_0 : cX0_spare.data.toList.drop 0 = dktX0_spare_0 := by decide +kernel
theorem dX0_spare_0 : decode cX0_spare 0 = .ok (.aload_n 2, 1) := dk_44 (dk_at dksX0_spare_0 0 rfl rfl)
theorem dX0_spare_1 : decode cX0_spare 1 = .ok (.iconst 0, 1) := dk_3 (dk_at dksX0_spare_0 1 rfl rfl)
theorem dX0_spare_2 : decode cX0_spare 2 = .ok (.aload_n 0, 1) := dk_42 (dk_at dksX0_spare_0 2 rfl rfl)
theorem dX0_spare_3 : decode cX0_spare 3 = .ok (.iload_n 1, 1) := dk_27 (dk_at dksX0_spare_0 3 rfl rfl)
theorem dX0_spare_4 : decode cX0_spare 4 = .ok (.invokevirtual 106, 3) := dk_182 0 106 (dk_at dksX0_spare_0 4 rfl rfl)
theorem dX0_spare_7 : decode cX0_spare 7 = .ok (.i2l, 1) := dk_133 (dk_at dksX0_spare_0 7 rfl rfl)
theorem dX0_spare_8 : decode cX0_spare 8 = .ok (.lastore, 1) := dk_80 (dk_at dksX0_spare_0 8 rfl rfl)
theorem dX0_spare_9 : decode cX0_spare 9 = .ok (.goto 6, 3) := dk_167 0 6 (dk_at dksX0_spare_0 9 rfl rfl)
theorem dX0_spare_12 : decode cX0_spare 12 = .ok (.astore_n 3, 1) := dk_78 (dk_at dksX0_spare_0 12 rfl rfl)
theorem dX0_spare_13 : decode cX0_spare 13 = .ok (.iconst 1, 1) := dk_4 (dk_at dksX0_spare_0 13 rfl rfl)
theorem dX0_spare_14 : decode cX0_spare 14 = .ok (.ireturn, 1) := dk_172 (dk_at dksX0_spare_0 14 rfl rfl)
theorem dX0_spare_15 : decode cX0_spare 15 = .ok (.iconst 0, 1) := dk_3 (dk_at dksX0_spare_0 15 rfl rfl)
theorem dX0_spare_16 : decode cX0_spare 16 = .ok (.ireturn, 1) := dk_172 (dk_at dksX0_spare_0 16 rfl rfl)
abbrev cX0_sunday : ByteArray := method_33_code
def yX0_sunday : MethodName := ⟨RX0, "sunday", "(LVowelChoir;IIII[J)I"⟩
def dkwX0_sunday_0 : List UInt8 := [25, 5, 3, 42, 27, 28, 29, 21, 4, 182, 0, 109, 133, 80, 167, 0, 7, 58, 6, 4, 172, 3, 172]
abbrev dktX0_sunday_0 : List UInt8 := dkwX0_sunday_0 ++ []
theorem dksX0_sunday_0 : cX0_sunday.data.toList.drop 0 = dktX0_sunday_0 := by decide +kernel
theorem dX0_sunday_0 : decode cX0_sunday 0 = .ok (.aload 5, 2) := dk_25 5 (dk_at dksX0_sunday_0 0 rfl rfl)
theorem dX0_sunday_2 : decode cX0_sunday 2 = .ok (.iconst 0, 1) := dk_3 (dk_at dksX0_sunday_0 2 rfl rfl)
theorem dX0_sunday_3 : decode cX0_sunday 3 = .ok (.aload_n 0, 1) := dk_42 (dk_at dksX0_sunday_0 3 rfl rfl)
theorem dX0_sunday_4 : decode cX0_sunday 4 = .ok (.iload_n 1, 1) := dk_27 (dk_at dksX0_sunday_0 4 rfl rfl)
theorem dX0_sunday_5 : decode cX0_sunday 5 = .ok (.iload_n 2, 1) := dk_28 (dk_at dksX0_sunday_0 5 rfl rfl)
theorem dX0_sunday_6 : decode cX0_sunday 6 = .ok (.iload_n 3, 1) := dk_29 (dk_at dksX0_sunday_0 6 rfl rfl)
theorem dX0_sunday_7 : decode cX0_sunday 7 = .ok (.iload 4, 2) := dk_21 4 (dk_at dksX0_sunday_0 7 rfl rfl)
theorem dX0_sunday_9 : decode cX0_sunday 9 = .ok (.invokevirtual 109, 3) := dk_182 0 109 (dk_at dksX0_sunday_0 9 rfl rfl)
theorem dX0_sunday_12 : decode cX0_sunday 12 = .ok (.i2l, 1) := dk_133 (dk_at dksX0_sunday_0 12 rfl rfl)
theorem dX0_sunday_13 : decode cX0_sunday 13 = .ok (.lastore, 1) := dk_80 (dk_at dksX0_sunday_0 13 rfl rfl)
theorem dX0_sunday_14 : decode cX0_sunday 14 = .ok (.goto 7, 3) := dk_167 0 7 (dk_at dksX0_sunday_0 14 rfl rfl)
theorem dX0_sunday_17 : decode cX0_sunday 17 = .ok (.astore 6, 2) := dk_58 6 (dk_at dksX0_sunday_0 17 rfl rfl)
theorem dX0_sunday_19 : decode cX0_sunday 19 = .ok (.iconst 1, 1) := dk_4 (dk_at dksX0_sunday_0 19 rfl rfl)
theorem dX0_sunday_20 : decode cX0_sunday 20 = .ok (.ireturn, 1) := dk_172 (dk_at dksX0_sunday_0 20 rfl rfl)
theorem dX0_sunday_21 : decode cX0_sunday 21 = .ok (.iconst 0, 1) := dk_3 (dk_at dksX0_sunday_0 21 rfl rfl)
theorem dX0_sunday_22 : decode cX0_sunday 22 = .ok (.ireturn, 1) := dk_172 (dk_at dksX0_sunday_0 22 rfl rfl)
abbrev cX0_span : ByteArray := method_34_code
def yX0_span : MethodName := ⟨RX0, "span", "(LVowelChoir;IIIIII[J)I"⟩
def dkwX0_span_1 : List UInt8 := [172, 3, 172]
abbrev dktX0_span_1 : List UInt8 := dkwX0_span_1 ++ []
def dkwX0_span_0 : List UInt8 := [25, 7, 3, 42, 27, 28, 29, 21, 4, 21, 5, 21, 6, 182, 0, 113, 133, 80, 167, 0, 7, 58, 8, 4]
abbrev dktX0_span_0 : List UInt8 := dkwX0_span_0 ++ dktX0_span_1
theorem dksX0_span_0 : cX0_span.data.toList.drop 0 = dktX0_span_0 := by decide +kernel
theorem dksX0_span_1 : cX0_span.data.toList.drop 24 = dktX0_span_1 := dk_seg dksX0_span_0 24 rfl rfl
theorem dX0_span_0 : decode cX0_span 0 = .ok (.aload 7, 2) := dk_25 7 (dk_at dksX0_span_0 0 rfl rfl)
theorem dX0_span_2 : decode cX0_span 2 = .ok (.iconst 0, 1) := dk_3 (dk_at dksX0_span_0 2 rfl rfl)
theorem dX0_span_3 : decode cX0_span 3 = .ok (.aload_n 0, 1) := dk_42 (dk_at dksX0_span_0 3 rfl rfl)
theorem dX0_span_4 : decode cX0_span 4 = .ok (.iload_n 1, 1) := dk_27 (dk_at dksX0_span_0 4 rfl rfl)
theorem dX0_span_5 : decode cX0_span 5 = .ok (.iload_n 2, 1) := dk_28 (dk_at dksX0_span_0 5 rfl rfl)
theorem dX0_span_6 : decode cX0_span 6 = .ok (.iload_n 3, 1) := dk_29 (dk_at dksX0_span_0 6 rfl rfl)
theorem dX0_span_7 : decode cX0_span 7 = .ok (.iload 4, 2) := dk_21 4 (dk_at dksX0_span_0 7 rfl rfl)
theorem dX0_span_9 : decode cX0_span 9 = .ok (.iload 5, 2) := dk_21 5 (dk_at dksX0_span_0 9 rfl rfl)
theorem dX0_span_11 : decode cX0_span 11 = .ok (.iload 6, 2) := dk_21 6 (dk_at dksX0_span_0 11 rfl rfl)
theorem dX0_span_13 : decode cX0_span 13 = .ok (.invokevirtual 113, 3) := dk_182 0 113 (dk_at dksX0_span_0 13 rfl rfl)
theorem dX0_span_16 : decode cX0_span 16 = .ok (.i2l, 1) := dk_133 (dk_at dksX0_span_0 16 rfl rfl)
theorem dX0_span_17 : decode cX0_span 17 = .ok (.lastore, 1) := dk_80 (dk_at dksX0_span_0 17 rfl rfl)
theorem dX0_span_18 : decode cX0_span 18 = .ok (.goto 7, 3) := dk_167 0 7 (dk_at dksX0_span_0 18 rfl rfl)
theorem dX0_span_21 : decode cX0_span 21 = .ok (.astore 8, 2) := dk_58 8 (dk_at dksX0_span_0 21 rfl rfl)
theorem dX0_span_23 : decode cX0_span 23 = .ok (.iconst 1, 1) := dk_4 (dk_at dksX0_span_0 23 rfl rfl)
theorem dX0_span_24 : decode cX0_span 24 = .ok (.ireturn, 1) := dk_172 (dk_at dksX0_span_1 0 rfl rfl)
theorem dX0_span_25 : decode cX0_span 25 = .ok (.iconst 0, 1) := dk_3 (dk_at dksX0_span_1 1 rfl rfl)
theorem dX0_span_26 : decode cX0_span 26 = .ok (.ireturn, 1) := dk_172 (dk_at dksX0_span_1 2 rfl rfl)
theorem q98 : (Jvm.Cond.initialized "VowelChoirLaw") ∈ lw_all := lw_g (lw_at lw_m1 0 rfl) rfl
theorem q153 : (Jvm.Cond.classLink "VowelChoirLaw" (8 : Nat) "VowelChoir") ∈ lw_all := lw_g (lw_at lw_m1 55 rfl) rfl
theorem q155 : (Jvm.Cond.methodLink "VowelChoirLaw" (117 : Nat) ({ cls := "VowelChoir", name := "<init>", desc := "()V" } : Jvm.MethodName)) ∈ lw_all := lw_g (lw_at lw_m1 57 rfl) rfl
theorem q724 : (Jvm.Cond.methodLink "VowelChoirLaw" (121 : Nat) ({ cls := "VowelChoir", name := "feed", desc := "(IIIII)I" } : Jvm.MethodName)) ∈ lw_all := lw_g (lw_at lw_m3 146 rfl) rfl
theorem q732 : (Jvm.Cond.methodLink "VowelChoirLaw" (145 : Nat) ({ cls := "VowelChoir", name := "fault", desc := "()I" } : Jvm.MethodName)) ∈ lw_all := lw_g (lw_at lw_m3 154 rfl) rfl
theorem q736 : (Jvm.Cond.methodLink "VowelChoirLaw" (149 : Nat) ({ cls := "VowelChoir", name := "undo", desc := "()I" } : Jvm.MethodName)) ∈ lw_all := lw_g (lw_at lw_m3 158 rfl) rfl
theorem q745 : (Jvm.Cond.methodLink "VowelChoirLaw" (235 : Nat) ({ cls := "VowelChoir", name := "mute", desc := "()I" } : Jvm.MethodName)) ∈ lw_all := lw_g (lw_at lw_m3 167 rfl) rfl
theorem q816 : (Jvm.Cond.methodLink "VowelChoirLaw" (239 : Nat) ({ cls := "VowelChoir", name := "idle", desc := "()I" } : Jvm.MethodName)) ∈ lw_all := lw_g (lw_at lw_m3 238 rfl) rfl
theorem q830 : (Jvm.Cond.methodLink "VowelChoirLaw" (176 : Nat) ({ cls := "VowelChoir", name := "cast", desc := "()I" } : Jvm.MethodName)) ∈ lw_all := lw_g (lw_at lw_m4 12 rfl) rfl
theorem q855 : (Jvm.Cond.methodLink "VowelChoirLaw" (183 : Nat) ({ cls := "VowelChoir", name := "bench", desc := "()I" } : Jvm.MethodName)) ∈ lw_all := lw_g (lw_at lw_m4 37 rfl) rfl
theorem q875 : (Jvm.Cond.methodLink "VowelChoirLaw" (190 : Nat) ({ cls := "VowelChoir", name := "wording", desc := "()I" } : Jvm.MethodName)) ∈ lw_all := lw_g (lw_at lw_m4 57 rfl) rfl
theorem q889 : (Jvm.Cond.methodLink "VowelChoirLaw" (262 : Nat) ({ cls := "VowelChoir", name := "image", desc := "()I" } : Jvm.MethodName)) ∈ lw_all := lw_g (lw_at lw_m4 71 rfl) rfl
theorem q897 : (Jvm.Cond.methodLink "VowelChoirLaw" (266 : Nat) ({ cls := "VowelChoir", name := "restore", desc := "()I" } : Jvm.MethodName)) ∈ lw_all := lw_g (lw_at lw_m4 79 rfl) rfl
theorem q901 : (Jvm.Cond.methodLink "VowelChoirLaw" (270 : Nat) ({ cls := "VowelChoir", name := "status", desc := "(I)I" } : Jvm.MethodName)) ∈ lw_all := lw_g (lw_at lw_m4 83 rfl) rfl
theorem q908 : (Jvm.Cond.methodLink "VowelChoirLaw" (274 : Nat) ({ cls := "VowelChoir", name := "count", desc := "(I)I" } : Jvm.MethodName)) ∈ lw_all := lw_g (lw_at lw_m4 90 rfl) rfl
theorem q912 : (Jvm.Cond.methodLink "VowelChoirLaw" (126 : Nat) ({ cls := "VowelChoirLaw", name := "choir", desc := "(LVowelChoir;I[J)I" } : Jvm.MethodName)) ∈ lw_all := lw_g (lw_at lw_m4 94 rfl) rfl
theorem q913 : (Jvm.Cond.static ({ cls := "VowelChoirLaw", name := "choir", desc := "(LVowelChoir;I[J)I" } : Jvm.MethodName)) ∈ lw_all := lw_g (lw_at lw_m4 95 rfl) rfl
theorem q914 : (Jvm.Cond.codeWith ({ cls := "VowelChoirLaw", name := "choir", desc := "(LVowelChoir;I[J)I" } : Jvm.MethodName) method_3_code (4 : Nat) (Option.some Jvm.ClassFile.FieldType.int) [((0 : Nat), (9 : Nat), (12 : Nat), (13 : Nat))]) ∈ lw_all := lw_g (lw_at lw_m4 96 rfl) rfl
theorem q915 : (Jvm.Cond.classLink "VowelChoirLaw" (13 : Nat) "java/lang/IllegalArgumentException") ∈ lw_all := lw_g (lw_at lw_m4 97 rfl) rfl
theorem q916 : (Jvm.Cond.methodLink "VowelChoirLaw" (7 : Nat) ({ cls := "VowelChoir", name := "choir", desc := "(I)I" } : Jvm.MethodName)) ∈ lw_all := lw_g (lw_at lw_m4 98 rfl) rfl
theorem q1287 : (Jvm.Cond.methodLink "VowelChoirLaw" (136 : Nat) ({ cls := "VowelChoirLaw", name := "law", desc := "(LVowelChoir;I[J)I" } : Jvm.MethodName)) ∈ lw_all := lw_g (lw_at lw_m5 229 rfl) rfl
theorem q1288 : (Jvm.Cond.static ({ cls := "VowelChoirLaw", name := "law", desc := "(LVowelChoir;I[J)I" } : Jvm.MethodName)) ∈ lw_all := lw_g (lw_at lw_m5 230 rfl) rfl
theorem q1289 : (Jvm.Cond.codeWith ({ cls := "VowelChoirLaw", name := "law", desc := "(LVowelChoir;I[J)I" } : Jvm.MethodName) method_4_code (4 : Nat) (Option.some Jvm.ClassFile.FieldType.int) [((0 : Nat), (9 : Nat), (12 : Nat), (13 : Nat))]) ∈ lw_all := lw_g (lw_at lw_m5 231 rfl) rfl
theorem q1290 : (Jvm.Cond.methodLink "VowelChoirLaw" (15 : Nat) ({ cls := "VowelChoir", name := "law", desc := "(I)I" } : Jvm.MethodName)) ∈ lw_all := lw_g (lw_at lw_m5 232 rfl) rfl
theorem q1446 : (Jvm.Cond.methodLink "VowelChoirLaw" (139 : Nat) ({ cls := "VowelChoirLaw", name := "work", desc := "(LVowelChoir;I[J)I" } : Jvm.MethodName)) ∈ lw_all := lw_g (lw_at lw_m6 148 rfl) rfl
theorem q1447 : (Jvm.Cond.static ({ cls := "VowelChoirLaw", name := "work", desc := "(LVowelChoir;I[J)I" } : Jvm.MethodName)) ∈ lw_all := lw_g (lw_at lw_m6 149 rfl) rfl
theorem q1448 : (Jvm.Cond.codeWith ({ cls := "VowelChoirLaw", name := "work", desc := "(LVowelChoir;I[J)I" } : Jvm.MethodName) method_5_code (4 : Nat) (Option.some Jvm.ClassFile.FieldType.int) [((0 : Nat), (9 : Nat), (12 : Nat), (13 : Nat))]) ∈ lw_all := lw_g (lw_at lw_m6 150 rfl) rfl
theorem q1449 : (Jvm.Cond.methodLink "VowelChoirLaw" (18 : Nat) ({ cls := "VowelChoir", name := "work", desc := "(I)I" } : Jvm.MethodName)) ∈ lw_all := lw_g (lw_at lw_m6 151 rfl) rfl
theorem q1670 : (Jvm.Cond.methodLink "VowelChoirLaw" (142 : Nat) ({ cls := "VowelChoirLaw", name := "book", desc := "(LVowelChoir;I[J)I" } : Jvm.MethodName)) ∈ lw_all := lw_g (lw_at lw_m7 132 rfl) rfl
theorem q1671 : (Jvm.Cond.static ({ cls := "VowelChoirLaw", name := "book", desc := "(LVowelChoir;I[J)I" } : Jvm.MethodName)) ∈ lw_all := lw_g (lw_at lw_m7 133 rfl) rfl
theorem q1672 : (Jvm.Cond.codeWith ({ cls := "VowelChoirLaw", name := "book", desc := "(LVowelChoir;I[J)I" } : Jvm.MethodName) method_6_code (4 : Nat) (Option.some Jvm.ClassFile.FieldType.int) [((0 : Nat), (9 : Nat), (12 : Nat), (13 : Nat))]) ∈ lw_all := lw_g (lw_at lw_m7 134 rfl) rfl
theorem q1673 : (Jvm.Cond.methodLink "VowelChoirLaw" (21 : Nat) ({ cls := "VowelChoir", name := "book", desc := "(I)I" } : Jvm.MethodName)) ∈ lw_all := lw_g (lw_at lw_m7 135 rfl) rfl
theorem q1715 : (Jvm.Cond.methodLink "VowelChoirLaw" (153 : Nat) ({ cls := "VowelChoirLaw", name := "told", desc := "(LVowelChoir;I[J)I" } : Jvm.MethodName)) ∈ lw_all := lw_g (lw_at lw_m7 177 rfl) rfl
theorem q1716 : (Jvm.Cond.static ({ cls := "VowelChoirLaw", name := "told", desc := "(LVowelChoir;I[J)I" } : Jvm.MethodName)) ∈ lw_all := lw_g (lw_at lw_m7 178 rfl) rfl
theorem q1717 : (Jvm.Cond.codeWith ({ cls := "VowelChoirLaw", name := "told", desc := "(LVowelChoir;I[J)I" } : Jvm.MethodName) method_7_code (4 : Nat) (Option.some Jvm.ClassFile.FieldType.int) [((0 : Nat), (9 : Nat), (12 : Nat), (13 : Nat))]) ∈ lw_all := lw_g (lw_at lw_m7 179 rfl) rfl
theorem q1718 : (Jvm.Cond.methodLink "VowelChoirLaw" (24 : Nat) ({ cls := "VowelChoir", name := "told", desc := "(I)I" } : Jvm.MethodName)) ∈ lw_all := lw_g (lw_at lw_m7 180 rfl) rfl
theorem q1733 : (Jvm.Cond.methodLink "VowelChoirLaw" (156 : Nat) ({ cls := "VowelChoirLaw", name := "singer", desc := "(LVowelChoir;II[J)I" } : Jvm.MethodName)) ∈ lw_all := lw_g (lw_at lw_m7 195 rfl) rfl
theorem q1734 : (Jvm.Cond.static ({ cls := "VowelChoirLaw", name := "singer", desc := "(LVowelChoir;II[J)I" } : Jvm.MethodName)) ∈ lw_all := lw_g (lw_at lw_m7 196 rfl) rfl
theorem q1735 : (Jvm.Cond.codeWith ({ cls := "VowelChoirLaw", name := "singer", desc := "(LVowelChoir;II[J)I" } : Jvm.MethodName) method_8_code (5 : Nat) (Option.some Jvm.ClassFile.FieldType.int) [((0 : Nat), (10 : Nat), (13 : Nat), (31 : Nat)), ((0 : Nat), (10 : Nat), (17 : Nat), (13 : Nat))]) ∈ lw_all := lw_g (lw_at lw_m7 197 rfl) rfl
theorem q1736 : (Jvm.Cond.classLink "VowelChoirLaw" (31 : Nat) "java/util/NoSuchElementException") ∈ lw_all := lw_g (lw_at lw_m7 198 rfl) rfl
theorem q1737 : (Jvm.Cond.methodLink "VowelChoirLaw" (27 : Nat) ({ cls := "VowelChoir", name := "singer", desc := "(II)I" } : Jvm.MethodName)) ∈ lw_all := lw_g (lw_at lw_m7 199 rfl) rfl
theorem q1764 : (Jvm.Cond.methodLink "VowelChoirLaw" (160 : Nat) ({ cls := "VowelChoirLaw", name := "note", desc := "(LVowelChoir;II[J)I" } : Jvm.MethodName)) ∈ lw_all := lw_g (lw_at lw_m7 226 rfl) rfl
theorem q1765 : (Jvm.Cond.static ({ cls := "VowelChoirLaw", name := "note", desc := "(LVowelChoir;II[J)I" } : Jvm.MethodName)) ∈ lw_all := lw_g (lw_at lw_m7 227 rfl) rfl
theorem q1766 : (Jvm.Cond.codeWith ({ cls := "VowelChoirLaw", name := "note", desc := "(LVowelChoir;II[J)I" } : Jvm.MethodName) method_9_code (5 : Nat) (Option.some Jvm.ClassFile.FieldType.int) [((0 : Nat), (10 : Nat), (13 : Nat), (31 : Nat)), ((0 : Nat), (10 : Nat), (17 : Nat), (13 : Nat))]) ∈ lw_all := lw_g (lw_at lw_m7 228 rfl) rfl
theorem q1767 : (Jvm.Cond.methodLink "VowelChoirLaw" (33 : Nat) ({ cls := "VowelChoir", name := "note", desc := "(II)I" } : Jvm.MethodName)) ∈ lw_all := lw_g (lw_at lw_m7 229 rfl) rfl
theorem q1775 : (Jvm.Cond.methodLink "VowelChoirLaw" (163 : Nat) ({ cls := "VowelChoirLaw", name := "like", desc := "(LVowelChoir;II[J)I" } : Jvm.MethodName)) ∈ lw_all := lw_g (lw_at lw_m7 237 rfl) rfl
theorem q1776 : (Jvm.Cond.static ({ cls := "VowelChoirLaw", name := "like", desc := "(LVowelChoir;II[J)I" } : Jvm.MethodName)) ∈ lw_all := lw_g (lw_at lw_m7 238 rfl) rfl
theorem q1777 : (Jvm.Cond.codeWith ({ cls := "VowelChoirLaw", name := "like", desc := "(LVowelChoir;II[J)I" } : Jvm.MethodName) method_10_code (5 : Nat) (Option.some Jvm.ClassFile.FieldType.int) [((0 : Nat), (10 : Nat), (13 : Nat), (31 : Nat)), ((0 : Nat), (10 : Nat), (17 : Nat), (13 : Nat))]) ∈ lw_all := lw_g (lw_at lw_m7 239 rfl) rfl
theorem q1778 : (Jvm.Cond.methodLink "VowelChoirLaw" (36 : Nat) ({ cls := "VowelChoir", name := "like", desc := "(II)I" } : Jvm.MethodName)) ∈ lw_all := lw_g (lw_at lw_m8 0 rfl) rfl
theorem q1782 : (Jvm.Cond.methodLink "VowelChoirLaw" (166 : Nat) ({ cls := "VowelChoirLaw", name := "takes", desc := "(LVowelChoir;II[J)I" } : Jvm.MethodName)) ∈ lw_all := lw_g (lw_at lw_m8 4 rfl) rfl
theorem q1783 : (Jvm.Cond.static ({ cls := "VowelChoirLaw", name := "takes", desc := "(LVowelChoir;II[J)I" } : Jvm.MethodName)) ∈ lw_all := lw_g (lw_at lw_m8 5 rfl) rfl
theorem q1784 : (Jvm.Cond.codeWith ({ cls := "VowelChoirLaw", name := "takes", desc := "(LVowelChoir;II[J)I" } : Jvm.MethodName) method_11_code (5 : Nat) (Option.some Jvm.ClassFile.FieldType.int) [((0 : Nat), (10 : Nat), (13 : Nat), (31 : Nat))]) ∈ lw_all := lw_g (lw_at lw_m8 6 rfl) rfl
theorem q1785 : (Jvm.Cond.methodLink "VowelChoirLaw" (39 : Nat) ({ cls := "VowelChoir", name := "takes", desc := "(II)I" } : Jvm.MethodName)) ∈ lw_all := lw_g (lw_at lw_m8 7 rfl) rfl
theorem q1790 : (Jvm.Cond.methodLink "VowelChoirLaw" (169 : Nat) ({ cls := "VowelChoirLaw", name := "would", desc := "(LVowelChoir;IIIIIIII[J)I" } : Jvm.MethodName)) ∈ lw_all := lw_g (lw_at lw_m8 12 rfl) rfl
theorem q1791 : (Jvm.Cond.static ({ cls := "VowelChoirLaw", name := "would", desc := "(LVowelChoir;IIIIIIII[J)I" } : Jvm.MethodName)) ∈ lw_all := lw_g (lw_at lw_m8 13 rfl) rfl
theorem q1792 : (Jvm.Cond.codeWith ({ cls := "VowelChoirLaw", name := "would", desc := "(LVowelChoir;IIIIIIII[J)I" } : Jvm.MethodName) method_12_code (11 : Nat) (Option.some Jvm.ClassFile.FieldType.int) [((0 : Nat), (22 : Nat), (25 : Nat), (13 : Nat))]) ∈ lw_all := lw_g (lw_at lw_m8 14 rfl) rfl
theorem q1793 : (Jvm.Cond.methodLink "VowelChoirLaw" (42 : Nat) ({ cls := "VowelChoir", name := "would", desc := "(IIIIIIII)I" } : Jvm.MethodName)) ∈ lw_all := lw_g (lw_at lw_m8 15 rfl) rfl
theorem q1801 : (Jvm.Cond.methodLink "VowelChoirLaw" (173 : Nat) ({ cls := "VowelChoirLaw", name := "ahead", desc := "(LVowelChoir;II[J)I" } : Jvm.MethodName)) ∈ lw_all := lw_g (lw_at lw_m8 23 rfl) rfl
theorem q1802 : (Jvm.Cond.static ({ cls := "VowelChoirLaw", name := "ahead", desc := "(LVowelChoir;II[J)I" } : Jvm.MethodName)) ∈ lw_all := lw_g (lw_at lw_m8 24 rfl) rfl
theorem q1803 : (Jvm.Cond.codeWith ({ cls := "VowelChoirLaw", name := "ahead", desc := "(LVowelChoir;II[J)I" } : Jvm.MethodName) method_13_code (5 : Nat) (Option.some Jvm.ClassFile.FieldType.int) [((0 : Nat), (10 : Nat), (13 : Nat), (13 : Nat))]) ∈ lw_all := lw_g (lw_at lw_m8 25 rfl) rfl
theorem q1804 : (Jvm.Cond.methodLink "VowelChoirLaw" (46 : Nat) ({ cls := "VowelChoir", name := "ahead", desc := "(II)I" } : Jvm.MethodName)) ∈ lw_all := lw_g (lw_at lw_m8 26 rfl) rfl
theorem q1808 : (Jvm.Cond.methodLink "VowelChoirLaw" (180 : Nat) ({ cls := "VowelChoirLaw", name := "handed", desc := "(LVowelChoir;II[J)I" } : Jvm.MethodName)) ∈ lw_all := lw_g (lw_at lw_m8 30 rfl) rfl
theorem q1809 : (Jvm.Cond.static ({ cls := "VowelChoirLaw", name := "handed", desc := "(LVowelChoir;II[J)I" } : Jvm.MethodName)) ∈ lw_all := lw_g (lw_at lw_m8 31 rfl) rfl
theorem q1810 : (Jvm.Cond.codeWith ({ cls := "VowelChoirLaw", name := "handed", desc := "(LVowelChoir;II[J)I" } : Jvm.MethodName) method_14_code (5 : Nat) (Option.some Jvm.ClassFile.FieldType.int) [((0 : Nat), (10 : Nat), (13 : Nat), (13 : Nat))]) ∈ lw_all := lw_g (lw_at lw_m8 32 rfl) rfl
theorem q1811 : (Jvm.Cond.methodLink "VowelChoirLaw" (49 : Nat) ({ cls := "VowelChoir", name := "handed", desc := "(II)I" } : Jvm.MethodName)) ∈ lw_all := lw_g (lw_at lw_m8 33 rfl) rfl
theorem q1815 : (Jvm.Cond.methodLink "VowelChoirLaw" (187 : Nat) ({ cls := "VowelChoirLaw", name := "benched", desc := "(LVowelChoir;I[J)I" } : Jvm.MethodName)) ∈ lw_all := lw_g (lw_at lw_m8 37 rfl) rfl
theorem q1816 : (Jvm.Cond.static ({ cls := "VowelChoirLaw", name := "benched", desc := "(LVowelChoir;I[J)I" } : Jvm.MethodName)) ∈ lw_all := lw_g (lw_at lw_m8 38 rfl) rfl
theorem q1817 : (Jvm.Cond.codeWith ({ cls := "VowelChoirLaw", name := "benched", desc := "(LVowelChoir;I[J)I" } : Jvm.MethodName) method_15_code (4 : Nat) (Option.some Jvm.ClassFile.FieldType.int) [((0 : Nat), (9 : Nat), (12 : Nat), (13 : Nat))]) ∈ lw_all := lw_g (lw_at lw_m8 39 rfl) rfl
theorem q1818 : (Jvm.Cond.methodLink "VowelChoirLaw" (52 : Nat) ({ cls := "VowelChoir", name := "benched", desc := "(I)I" } : Jvm.MethodName)) ∈ lw_all := lw_g (lw_at lw_m8 40 rfl) rfl
theorem q1822 : (Jvm.Cond.methodLink "VowelChoirLaw" (194 : Nat) ({ cls := "VowelChoirLaw", name := "wordings", desc := "(LVowelChoir;I[J)I" } : Jvm.MethodName)) ∈ lw_all := lw_g (lw_at lw_m8 44 rfl) rfl
theorem q1823 : (Jvm.Cond.static ({ cls := "VowelChoirLaw", name := "wordings", desc := "(LVowelChoir;I[J)I" } : Jvm.MethodName)) ∈ lw_all := lw_g (lw_at lw_m8 45 rfl) rfl
theorem q1824 : (Jvm.Cond.codeWith ({ cls := "VowelChoirLaw", name := "wordings", desc := "(LVowelChoir;I[J)I" } : Jvm.MethodName) method_16_code (4 : Nat) (Option.some Jvm.ClassFile.FieldType.int) [((0 : Nat), (8 : Nat), (11 : Nat), (13 : Nat))]) ∈ lw_all := lw_g (lw_at lw_m8 46 rfl) rfl
theorem q1825 : (Jvm.Cond.methodLink "VowelChoirLaw" (55 : Nat) ({ cls := "VowelChoir", name := "wordings", desc := "(I)J" } : Jvm.MethodName)) ∈ lw_all := lw_g (lw_at lw_m8 47 rfl) rfl
theorem q1829 : (Jvm.Cond.methodLink "VowelChoirLaw" (197 : Nat) ({ cls := "VowelChoirLaw", name := "who", desc := "(LVowelChoir;I[J)I" } : Jvm.MethodName)) ∈ lw_all := lw_g (lw_at lw_m8 51 rfl) rfl
theorem q1830 : (Jvm.Cond.static ({ cls := "VowelChoirLaw", name := "who", desc := "(LVowelChoir;I[J)I" } : Jvm.MethodName)) ∈ lw_all := lw_g (lw_at lw_m8 52 rfl) rfl
theorem q1831 : (Jvm.Cond.codeWith ({ cls := "VowelChoirLaw", name := "who", desc := "(LVowelChoir;I[J)I" } : Jvm.MethodName) method_17_code (4 : Nat) (Option.some Jvm.ClassFile.FieldType.int) [((0 : Nat), (9 : Nat), (12 : Nat), (13 : Nat))]) ∈ lw_all := lw_g (lw_at lw_m8 53 rfl) rfl
theorem q1832 : (Jvm.Cond.methodLink "VowelChoirLaw" (59 : Nat) ({ cls := "VowelChoir", name := "who", desc := "(I)I" } : Jvm.MethodName)) ∈ lw_all := lw_g (lw_at lw_m8 54 rfl) rfl
theorem q1844 : (Jvm.Cond.methodLink "VowelChoirLaw" (200 : Nat) ({ cls := "VowelChoirLaw", name := "listen", desc := "(LVowelChoir;I[J)I" } : Jvm.MethodName)) ∈ lw_all := lw_g (lw_at lw_m8 66 rfl) rfl
theorem q1845 : (Jvm.Cond.static ({ cls := "VowelChoirLaw", name := "listen", desc := "(LVowelChoir;I[J)I" } : Jvm.MethodName)) ∈ lw_all := lw_g (lw_at lw_m8 67 rfl) rfl
theorem q1846 : (Jvm.Cond.codeWith ({ cls := "VowelChoirLaw", name := "listen", desc := "(LVowelChoir;I[J)I" } : Jvm.MethodName) method_18_code (4 : Nat) (Option.some Jvm.ClassFile.FieldType.int) [((0 : Nat), (9 : Nat), (12 : Nat), (13 : Nat))]) ∈ lw_all := lw_g (lw_at lw_m8 68 rfl) rfl
theorem q1847 : (Jvm.Cond.methodLink "VowelChoirLaw" (62 : Nat) ({ cls := "VowelChoir", name := "listen", desc := "(I)I" } : Jvm.MethodName)) ∈ lw_all := lw_g (lw_at lw_m8 69 rfl) rfl
theorem q1855 : (Jvm.Cond.methodLink "VowelChoirLaw" (203 : Nat) ({ cls := "VowelChoirLaw", name := "duty", desc := "(LVowelChoir;I[J)I" } : Jvm.MethodName)) ∈ lw_all := lw_g (lw_at lw_m8 77 rfl) rfl
theorem q1856 : (Jvm.Cond.static ({ cls := "VowelChoirLaw", name := "duty", desc := "(LVowelChoir;I[J)I" } : Jvm.MethodName)) ∈ lw_all := lw_g (lw_at lw_m8 78 rfl) rfl
theorem q1857 : (Jvm.Cond.codeWith ({ cls := "VowelChoirLaw", name := "duty", desc := "(LVowelChoir;I[J)I" } : Jvm.MethodName) method_19_code (4 : Nat) (Option.some Jvm.ClassFile.FieldType.int) [((0 : Nat), (9 : Nat), (12 : Nat), (31 : Nat))]) ∈ lw_all := lw_g (lw_at lw_m8 79 rfl) rfl
theorem q1858 : (Jvm.Cond.methodLink "VowelChoirLaw" (65 : Nat) ({ cls := "VowelChoir", name := "duty", desc := "(I)I" } : Jvm.MethodName)) ∈ lw_all := lw_g (lw_at lw_m8 80 rfl) rfl
theorem q1863 : (Jvm.Cond.methodLink "VowelChoirLaw" (206 : Nat) ({ cls := "VowelChoirLaw", name := "range", desc := "(LVowelChoir;I[J)I" } : Jvm.MethodName)) ∈ lw_all := lw_g (lw_at lw_m8 85 rfl) rfl
theorem q1864 : (Jvm.Cond.static ({ cls := "VowelChoirLaw", name := "range", desc := "(LVowelChoir;I[J)I" } : Jvm.MethodName)) ∈ lw_all := lw_g (lw_at lw_m8 86 rfl) rfl
theorem q1865 : (Jvm.Cond.codeWith ({ cls := "VowelChoirLaw", name := "range", desc := "(LVowelChoir;I[J)I" } : Jvm.MethodName) method_20_code (4 : Nat) (Option.some Jvm.ClassFile.FieldType.int) [((0 : Nat), (9 : Nat), (12 : Nat), (31 : Nat))]) ∈ lw_all := lw_g (lw_at lw_m8 87 rfl) rfl
theorem q1866 : (Jvm.Cond.methodLink "VowelChoirLaw" (68 : Nat) ({ cls := "VowelChoir", name := "range", desc := "(I)I" } : Jvm.MethodName)) ∈ lw_all := lw_g (lw_at lw_m8 88 rfl) rfl
theorem q1870 : (Jvm.Cond.methodLink "VowelChoirLaw" (209 : Nat) ({ cls := "VowelChoirLaw", name := "quarrel", desc := "(LVowelChoir;III[J)I" } : Jvm.MethodName)) ∈ lw_all := lw_g (lw_at lw_m8 92 rfl) rfl
theorem q1871 : (Jvm.Cond.static ({ cls := "VowelChoirLaw", name := "quarrel", desc := "(LVowelChoir;III[J)I" } : Jvm.MethodName)) ∈ lw_all := lw_g (lw_at lw_m8 93 rfl) rfl
theorem q1872 : (Jvm.Cond.codeWith ({ cls := "VowelChoirLaw", name := "quarrel", desc := "(LVowelChoir;III[J)I" } : Jvm.MethodName) method_21_code (6 : Nat) (Option.some Jvm.ClassFile.FieldType.int) [((0 : Nat), (12 : Nat), (15 : Nat), (13 : Nat))]) ∈ lw_all := lw_g (lw_at lw_m8 94 rfl) rfl
theorem q1873 : (Jvm.Cond.methodLink "VowelChoirLaw" (71 : Nat) ({ cls := "VowelChoir", name := "quarrel", desc := "(III)I" } : Jvm.MethodName)) ∈ lw_all := lw_g (lw_at lw_m8 95 rfl) rfl
theorem q1880 : (Jvm.Cond.methodLink "VowelChoirLaw" (213 : Nat) ({ cls := "VowelChoirLaw", name := "enough", desc := "(LVowelChoir;IIII[J)I" } : Jvm.MethodName)) ∈ lw_all := lw_g (lw_at lw_m8 102 rfl) rfl
theorem q1881 : (Jvm.Cond.static ({ cls := "VowelChoirLaw", name := "enough", desc := "(LVowelChoir;IIII[J)I" } : Jvm.MethodName)) ∈ lw_all := lw_g (lw_at lw_m8 103 rfl) rfl
theorem q1882 : (Jvm.Cond.codeWith ({ cls := "VowelChoirLaw", name := "enough", desc := "(LVowelChoir;IIII[J)I" } : Jvm.MethodName) method_22_code (7 : Nat) (Option.some Jvm.ClassFile.FieldType.int) [((0 : Nat), (13 : Nat), (16 : Nat), (13 : Nat))]) ∈ lw_all := lw_g (lw_at lw_m8 104 rfl) rfl
theorem q1883 : (Jvm.Cond.methodLink "VowelChoirLaw" (75 : Nat) ({ cls := "VowelChoir", name := "enough", desc := "(IIII)J" } : Jvm.MethodName)) ∈ lw_all := lw_g (lw_at lw_m8 105 rfl) rfl
theorem q1894 : (Jvm.Cond.methodLink "VowelChoirLaw" (217 : Nat) ({ cls := "VowelChoirLaw", name := "rent", desc := "(LVowelChoir;III[J)I" } : Jvm.MethodName)) ∈ lw_all := lw_g (lw_at lw_m8 116 rfl) rfl
theorem q1895 : (Jvm.Cond.static ({ cls := "VowelChoirLaw", name := "rent", desc := "(LVowelChoir;III[J)I" } : Jvm.MethodName)) ∈ lw_all := lw_g (lw_at lw_m8 117 rfl) rfl
theorem q1896 : (Jvm.Cond.codeWith ({ cls := "VowelChoirLaw", name := "rent", desc := "(LVowelChoir;III[J)I" } : Jvm.MethodName) method_23_code (6 : Nat) (Option.some Jvm.ClassFile.FieldType.int) [((0 : Nat), (12 : Nat), (15 : Nat), (31 : Nat)), ((0 : Nat), (12 : Nat), (19 : Nat), (13 : Nat))]) ∈ lw_all := lw_g (lw_at lw_m8 118 rfl) rfl
theorem q1897 : (Jvm.Cond.methodLink "VowelChoirLaw" (79 : Nat) ({ cls := "VowelChoir", name := "rent", desc := "(III)I" } : Jvm.MethodName)) ∈ lw_all := lw_g (lw_at lw_m8 119 rfl) rfl
theorem q1905 : (Jvm.Cond.methodLink "VowelChoirLaw" (220 : Nat) ({ cls := "VowelChoirLaw", name := "dearest", desc := "(LVowelChoir;I[J)I" } : Jvm.MethodName)) ∈ lw_all := lw_g (lw_at lw_m8 127 rfl) rfl
theorem q1906 : (Jvm.Cond.static ({ cls := "VowelChoirLaw", name := "dearest", desc := "(LVowelChoir;I[J)I" } : Jvm.MethodName)) ∈ lw_all := lw_g (lw_at lw_m8 128 rfl) rfl
theorem q1907 : (Jvm.Cond.codeWith ({ cls := "VowelChoirLaw", name := "dearest", desc := "(LVowelChoir;I[J)I" } : Jvm.MethodName) method_24_code (4 : Nat) (Option.some Jvm.ClassFile.FieldType.int) [((0 : Nat), (9 : Nat), (12 : Nat), (13 : Nat))]) ∈ lw_all := lw_g (lw_at lw_m8 129 rfl) rfl
theorem q1908 : (Jvm.Cond.methodLink "VowelChoirLaw" (82 : Nat) ({ cls := "VowelChoir", name := "dearest", desc := "(I)I" } : Jvm.MethodName)) ∈ lw_all := lw_g (lw_at lw_m8 130 rfl) rfl
theorem q1912 : (Jvm.Cond.methodLink "VowelChoirLaw" (223 : Nat) ({ cls := "VowelChoirLaw", name := "voices", desc := "(LVowelChoir;I[J)I" } : Jvm.MethodName)) ∈ lw_all := lw_g (lw_at lw_m8 134 rfl) rfl
theorem q1913 : (Jvm.Cond.static ({ cls := "VowelChoirLaw", name := "voices", desc := "(LVowelChoir;I[J)I" } : Jvm.MethodName)) ∈ lw_all := lw_g (lw_at lw_m8 135 rfl) rfl
theorem q1914 : (Jvm.Cond.codeWith ({ cls := "VowelChoirLaw", name := "voices", desc := "(LVowelChoir;I[J)I" } : Jvm.MethodName) method_25_code (4 : Nat) (Option.some Jvm.ClassFile.FieldType.int) [((0 : Nat), (9 : Nat), (12 : Nat), (13 : Nat))]) ∈ lw_all := lw_g (lw_at lw_m8 136 rfl) rfl
theorem q1915 : (Jvm.Cond.methodLink "VowelChoirLaw" (85 : Nat) ({ cls := "VowelChoir", name := "voices", desc := "(I)I" } : Jvm.MethodName)) ∈ lw_all := lw_g (lw_at lw_m8 137 rfl) rfl
theorem q1919 : (Jvm.Cond.methodLink "VowelChoirLaw" (226 : Nat) ({ cls := "VowelChoirLaw", name := "sounds", desc := "(LVowelChoir;I[J)I" } : Jvm.MethodName)) ∈ lw_all := lw_g (lw_at lw_m8 141 rfl) rfl
theorem q1920 : (Jvm.Cond.static ({ cls := "VowelChoirLaw", name := "sounds", desc := "(LVowelChoir;I[J)I" } : Jvm.MethodName)) ∈ lw_all := lw_g (lw_at lw_m8 142 rfl) rfl
theorem q1921 : (Jvm.Cond.codeWith ({ cls := "VowelChoirLaw", name := "sounds", desc := "(LVowelChoir;I[J)I" } : Jvm.MethodName) method_26_code (4 : Nat) (Option.some Jvm.ClassFile.FieldType.int) [((0 : Nat), (9 : Nat), (12 : Nat), (13 : Nat))]) ∈ lw_all := lw_g (lw_at lw_m8 143 rfl) rfl
theorem q1922 : (Jvm.Cond.methodLink "VowelChoirLaw" (88 : Nat) ({ cls := "VowelChoir", name := "sounds", desc := "(I)I" } : Jvm.MethodName)) ∈ lw_all := lw_g (lw_at lw_m8 144 rfl) rfl
theorem q1930 : (Jvm.Cond.methodLink "VowelChoirLaw" (229 : Nat) ({ cls := "VowelChoirLaw", name := "beats", desc := "(LVowelChoir;I[J)I" } : Jvm.MethodName)) ∈ lw_all := lw_g (lw_at lw_m8 152 rfl) rfl
theorem q1931 : (Jvm.Cond.static ({ cls := "VowelChoirLaw", name := "beats", desc := "(LVowelChoir;I[J)I" } : Jvm.MethodName)) ∈ lw_all := lw_g (lw_at lw_m8 153 rfl) rfl
theorem q1932 : (Jvm.Cond.codeWith ({ cls := "VowelChoirLaw", name := "beats", desc := "(LVowelChoir;I[J)I" } : Jvm.MethodName) method_27_code (4 : Nat) (Option.some Jvm.ClassFile.FieldType.int) [((0 : Nat), (9 : Nat), (12 : Nat), (13 : Nat))]) ∈ lw_all := lw_g (lw_at lw_m8 154 rfl) rfl
theorem q1933 : (Jvm.Cond.methodLink "VowelChoirLaw" (91 : Nat) ({ cls := "VowelChoir", name := "beats", desc := "(I)I" } : Jvm.MethodName)) ∈ lw_all := lw_g (lw_at lw_m8 155 rfl) rfl
theorem q1937 : (Jvm.Cond.methodLink "VowelChoirLaw" (232 : Nat) ({ cls := "VowelChoirLaw", name := "words", desc := "(LVowelChoir;I[J)I" } : Jvm.MethodName)) ∈ lw_all := lw_g (lw_at lw_m8 159 rfl) rfl
theorem q1938 : (Jvm.Cond.static ({ cls := "VowelChoirLaw", name := "words", desc := "(LVowelChoir;I[J)I" } : Jvm.MethodName)) ∈ lw_all := lw_g (lw_at lw_m8 160 rfl) rfl
theorem q1939 : (Jvm.Cond.codeWith ({ cls := "VowelChoirLaw", name := "words", desc := "(LVowelChoir;I[J)I" } : Jvm.MethodName) method_28_code (4 : Nat) (Option.some Jvm.ClassFile.FieldType.int) [((0 : Nat), (9 : Nat), (12 : Nat), (31 : Nat))]) ∈ lw_all := lw_g (lw_at lw_m8 161 rfl) rfl
theorem q1940 : (Jvm.Cond.methodLink "VowelChoirLaw" (94 : Nat) ({ cls := "VowelChoir", name := "words", desc := "(I)I" } : Jvm.MethodName)) ∈ lw_all := lw_g (lw_at lw_m8 162 rfl) rfl
theorem q1944 : (Jvm.Cond.methodLink "VowelChoirLaw" (243 : Nat) ({ cls := "VowelChoirLaw", name := "alone", desc := "(LVowelChoir;I[J)I" } : Jvm.MethodName)) ∈ lw_all := lw_g (lw_at lw_m8 166 rfl) rfl
theorem q1945 : (Jvm.Cond.static ({ cls := "VowelChoirLaw", name := "alone", desc := "(LVowelChoir;I[J)I" } : Jvm.MethodName)) ∈ lw_all := lw_g (lw_at lw_m8 167 rfl) rfl
theorem q1946 : (Jvm.Cond.codeWith ({ cls := "VowelChoirLaw", name := "alone", desc := "(LVowelChoir;I[J)I" } : Jvm.MethodName) method_29_code (4 : Nat) (Option.some Jvm.ClassFile.FieldType.int) [((0 : Nat), (9 : Nat), (12 : Nat), (13 : Nat))]) ∈ lw_all := lw_g (lw_at lw_m8 168 rfl) rfl
theorem q1947 : (Jvm.Cond.methodLink "VowelChoirLaw" (97 : Nat) ({ cls := "VowelChoir", name := "alone", desc := "(I)I" } : Jvm.MethodName)) ∈ lw_all := lw_g (lw_at lw_m8 169 rfl) rfl
theorem q1956 : (Jvm.Cond.methodLink "VowelChoirLaw" (246 : Nat) ({ cls := "VowelChoirLaw", name := "longest", desc := "(LVowelChoir;I[J)I" } : Jvm.MethodName)) ∈ lw_all := lw_g (lw_at lw_m8 178 rfl) rfl
theorem q1957 : (Jvm.Cond.static ({ cls := "VowelChoirLaw", name := "longest", desc := "(LVowelChoir;I[J)I" } : Jvm.MethodName)) ∈ lw_all := lw_g (lw_at lw_m8 179 rfl) rfl
theorem q1958 : (Jvm.Cond.codeWith ({ cls := "VowelChoirLaw", name := "longest", desc := "(LVowelChoir;I[J)I" } : Jvm.MethodName) method_30_code (4 : Nat) (Option.some Jvm.ClassFile.FieldType.int) [((0 : Nat), (9 : Nat), (12 : Nat), (13 : Nat))]) ∈ lw_all := lw_g (lw_at lw_m8 180 rfl) rfl
theorem q1959 : (Jvm.Cond.methodLink "VowelChoirLaw" (100 : Nat) ({ cls := "VowelChoir", name := "longest", desc := "(I)I" } : Jvm.MethodName)) ∈ lw_all := lw_g (lw_at lw_m8 181 rfl) rfl
theorem q1963 : (Jvm.Cond.methodLink "VowelChoirLaw" (249 : Nat) ({ cls := "VowelChoirLaw", name := "chorus", desc := "(LVowelChoir;I[J)I" } : Jvm.MethodName)) ∈ lw_all := lw_g (lw_at lw_m8 185 rfl) rfl
theorem q1964 : (Jvm.Cond.static ({ cls := "VowelChoirLaw", name := "chorus", desc := "(LVowelChoir;I[J)I" } : Jvm.MethodName)) ∈ lw_all := lw_g (lw_at lw_m8 186 rfl) rfl
theorem q1965 : (Jvm.Cond.codeWith ({ cls := "VowelChoirLaw", name := "chorus", desc := "(LVowelChoir;I[J)I" } : Jvm.MethodName) method_31_code (4 : Nat) (Option.some Jvm.ClassFile.FieldType.int) [((0 : Nat), (9 : Nat), (12 : Nat), (13 : Nat))]) ∈ lw_all := lw_g (lw_at lw_m8 187 rfl) rfl
theorem q1966 : (Jvm.Cond.methodLink "VowelChoirLaw" (103 : Nat) ({ cls := "VowelChoir", name := "chorus", desc := "(I)I" } : Jvm.MethodName)) ∈ lw_all := lw_g (lw_at lw_m8 188 rfl) rfl
theorem q1970 : (Jvm.Cond.methodLink "VowelChoirLaw" (252 : Nat) ({ cls := "VowelChoirLaw", name := "spare", desc := "(LVowelChoir;I[J)I" } : Jvm.MethodName)) ∈ lw_all := lw_g (lw_at lw_m8 192 rfl) rfl
theorem q1971 : (Jvm.Cond.static ({ cls := "VowelChoirLaw", name := "spare", desc := "(LVowelChoir;I[J)I" } : Jvm.MethodName)) ∈ lw_all := lw_g (lw_at lw_m8 193 rfl) rfl
theorem q1972 : (Jvm.Cond.codeWith ({ cls := "VowelChoirLaw", name := "spare", desc := "(LVowelChoir;I[J)I" } : Jvm.MethodName) method_32_code (4 : Nat) (Option.some Jvm.ClassFile.FieldType.int) [((0 : Nat), (9 : Nat), (12 : Nat), (13 : Nat))]) ∈ lw_all := lw_g (lw_at lw_m8 194 rfl) rfl
theorem q1973 : (Jvm.Cond.methodLink "VowelChoirLaw" (106 : Nat) ({ cls := "VowelChoir", name := "spare", desc := "(I)I" } : Jvm.MethodName)) ∈ lw_all := lw_g (lw_at lw_m8 195 rfl) rfl
theorem q1977 : (Jvm.Cond.methodLink "VowelChoirLaw" (255 : Nat) ({ cls := "VowelChoirLaw", name := "sunday", desc := "(LVowelChoir;IIII[J)I" } : Jvm.MethodName)) ∈ lw_all := lw_g (lw_at lw_m8 199 rfl) rfl
theorem q1978 : (Jvm.Cond.static ({ cls := "VowelChoirLaw", name := "sunday", desc := "(LVowelChoir;IIII[J)I" } : Jvm.MethodName)) ∈ lw_all := lw_g (lw_at lw_m8 200 rfl) rfl
theorem q1979 : (Jvm.Cond.codeWith ({ cls := "VowelChoirLaw", name := "sunday", desc := "(LVowelChoir;IIII[J)I" } : Jvm.MethodName) method_33_code (7 : Nat) (Option.some Jvm.ClassFile.FieldType.int) [((0 : Nat), (14 : Nat), (17 : Nat), (13 : Nat))]) ∈ lw_all := lw_g (lw_at lw_m8 201 rfl) rfl
theorem q1980 : (Jvm.Cond.methodLink "VowelChoirLaw" (109 : Nat) ({ cls := "VowelChoir", name := "sunday", desc := "(IIII)I" } : Jvm.MethodName)) ∈ lw_all := lw_g (lw_at lw_m8 202 rfl) rfl
theorem q1998 : (Jvm.Cond.methodLink "VowelChoirLaw" (258 : Nat) ({ cls := "VowelChoirLaw", name := "span", desc := "(LVowelChoir;IIIIII[J)I" } : Jvm.MethodName)) ∈ lw_all := lw_g (lw_at lw_m8 220 rfl) rfl
theorem q1999 : (Jvm.Cond.static ({ cls := "VowelChoirLaw", name := "span", desc := "(LVowelChoir;IIIIII[J)I" } : Jvm.MethodName)) ∈ lw_all := lw_g (lw_at lw_m8 221 rfl) rfl
theorem q2000 : (Jvm.Cond.codeWith ({ cls := "VowelChoirLaw", name := "span", desc := "(LVowelChoir;IIIIII[J)I" } : Jvm.MethodName) method_34_code (9 : Nat) (Option.some Jvm.ClassFile.FieldType.int) [((0 : Nat), (18 : Nat), (21 : Nat), (13 : Nat))]) ∈ lw_all := lw_g (lw_at lw_m8 222 rfl) rfl
theorem q2001 : (Jvm.Cond.methodLink "VowelChoirLaw" (113 : Nat) ({ cls := "VowelChoir", name := "span", desc := "(IIIIII)I" } : Jvm.MethodName)) ∈ lw_all := lw_g (lw_at lw_m8 223 rfl) rfl
theorem q2005 : (Jvm.Cond.classLink "VowelChoirLaw" (118 : Nat) "VowelChoirModel") ∈ lw_all := lw_g (lw_at lw_m8 227 rfl) rfl
theorem q2007 : (Jvm.Cond.methodLink "VowelChoirLaw" (120 : Nat) ({ cls := "VowelChoirModel", name := "<init>", desc := "()V" } : Jvm.MethodName)) ∈ lw_all := lw_g (lw_at lw_m8 229 rfl) rfl
theorem q2168 : (Jvm.Cond.methodLink "VowelChoirLaw" (132 : Nat) ({ cls := "VowelChoirModel", name := "thrown", desc := "()I" } : Jvm.MethodName)) ∈ lw_all := lw_g (lw_at lw_m9 150 rfl) rfl
theorem q2172 : (Jvm.Cond.methodLink "VowelChoirLaw" (125 : Nat) ({ cls := "VowelChoirModel", name := "feed", desc := "(IIIII)I" } : Jvm.MethodName)) ∈ lw_all := lw_g (lw_at lw_m9 154 rfl) rfl
theorem q2176 : (Jvm.Cond.methodLink "VowelChoirLaw" (131 : Nat) ({ cls := "VowelChoirModel", name := "choir", desc := "(I)I" } : Jvm.MethodName)) ∈ lw_all := lw_g (lw_at lw_m9 158 rfl) rfl
theorem q2248 : (Jvm.Cond.methodLink "VowelChoirLaw" (138 : Nat) ({ cls := "VowelChoirModel", name := "law", desc := "(I)I" } : Jvm.MethodName)) ∈ lw_all := lw_g (lw_at lw_m9 230 rfl) rfl
theorem q2284 : (Jvm.Cond.methodLink "VowelChoirLaw" (144 : Nat) ({ cls := "VowelChoirModel", name := "book", desc := "(I)I" } : Jvm.MethodName)) ∈ lw_all := lw_g (lw_at lw_m10 26 rfl) rfl
theorem q2291 : (Jvm.Cond.methodLink "VowelChoirLaw" (148 : Nat) ({ cls := "VowelChoirModel", name := "fault", desc := "()I" } : Jvm.MethodName)) ∈ lw_all := lw_g (lw_at lw_m10 33 rfl) rfl
theorem q2295 : (Jvm.Cond.methodLink "VowelChoirLaw" (141 : Nat) ({ cls := "VowelChoirModel", name := "work", desc := "(I)I" } : Jvm.MethodName)) ∈ lw_all := lw_g (lw_at lw_m10 37 rfl) rfl
theorem q2366 : (Jvm.Cond.methodLink "VowelChoirLaw" (152 : Nat) ({ cls := "VowelChoirModel", name := "undo", desc := "()I" } : Jvm.MethodName)) ∈ lw_all := lw_g (lw_at lw_m10 108 rfl) rfl
theorem q2370 : (Jvm.Cond.methodLink "VowelChoirLaw" (155 : Nat) ({ cls := "VowelChoirModel", name := "told", desc := "(I)I" } : Jvm.MethodName)) ∈ lw_all := lw_g (lw_at lw_m10 112 rfl) rfl
theorem q2382 : (Jvm.Cond.methodLink "VowelChoirLaw" (159 : Nat) ({ cls := "VowelChoirModel", name := "singer", desc := "(II)I" } : Jvm.MethodName)) ∈ lw_all := lw_g (lw_at lw_m10 124 rfl) rfl
theorem q2390 : (Jvm.Cond.methodLink "VowelChoirLaw" (162 : Nat) ({ cls := "VowelChoirModel", name := "note", desc := "(II)I" } : Jvm.MethodName)) ∈ lw_all := lw_g (lw_at lw_m10 132 rfl) rfl
theorem q2398 : (Jvm.Cond.methodLink "VowelChoirLaw" (165 : Nat) ({ cls := "VowelChoirModel", name := "like", desc := "(II)I" } : Jvm.MethodName)) ∈ lw_all := lw_g (lw_at lw_m10 140 rfl) rfl
theorem q2402 : (Jvm.Cond.methodLink "VowelChoirLaw" (168 : Nat) ({ cls := "VowelChoirModel", name := "takes", desc := "(II)I" } : Jvm.MethodName)) ∈ lw_all := lw_g (lw_at lw_m10 144 rfl) rfl
theorem q2406 : (Jvm.Cond.methodLink "VowelChoirLaw" (172 : Nat) ({ cls := "VowelChoirModel", name := "would", desc := "(IIIIIIII)I" } : Jvm.MethodName)) ∈ lw_all := lw_g (lw_at lw_m10 148 rfl) rfl
theorem q2413 : (Jvm.Cond.methodLink "VowelChoirLaw" (175 : Nat) ({ cls := "VowelChoirModel", name := "ahead", desc := "(II)I" } : Jvm.MethodName)) ∈ lw_all := lw_g (lw_at lw_m10 155 rfl) rfl
theorem q2417 : (Jvm.Cond.methodLink "VowelChoirLaw" (179 : Nat) ({ cls := "VowelChoirModel", name := "cast", desc := "()I" } : Jvm.MethodName)) ∈ lw_all := lw_g (lw_at lw_m10 159 rfl) rfl
theorem q2436 : (Jvm.Cond.methodLink "VowelChoirLaw" (182 : Nat) ({ cls := "VowelChoirModel", name := "handed", desc := "(II)I" } : Jvm.MethodName)) ∈ lw_all := lw_g (lw_at lw_m10 178 rfl) rfl
theorem q2444 : (Jvm.Cond.methodLink "VowelChoirLaw" (186 : Nat) ({ cls := "VowelChoirModel", name := "bench", desc := "()I" } : Jvm.MethodName)) ∈ lw_all := lw_g (lw_at lw_m10 186 rfl) rfl
theorem q2456 : (Jvm.Cond.methodLink "VowelChoirLaw" (189 : Nat) ({ cls := "VowelChoirModel", name := "benched", desc := "(I)I" } : Jvm.MethodName)) ∈ lw_all := lw_g (lw_at lw_m10 198 rfl) rfl
theorem q2460 : (Jvm.Cond.methodLink "VowelChoirLaw" (193 : Nat) ({ cls := "VowelChoirModel", name := "wording", desc := "()I" } : Jvm.MethodName)) ∈ lw_all := lw_g (lw_at lw_m10 202 rfl) rfl
theorem q2464 : (Jvm.Cond.methodLink "VowelChoirLaw" (196 : Nat) ({ cls := "VowelChoirModel", name := "wordings", desc := "(I)J" } : Jvm.MethodName)) ∈ lw_all := lw_g (lw_at lw_m10 206 rfl) rfl
theorem q2468 : (Jvm.Cond.methodLink "VowelChoirLaw" (199 : Nat) ({ cls := "VowelChoirModel", name := "who", desc := "(I)I" } : Jvm.MethodName)) ∈ lw_all := lw_g (lw_at lw_m10 210 rfl) rfl
theorem q2476 : (Jvm.Cond.methodLink "VowelChoirLaw" (202 : Nat) ({ cls := "VowelChoirModel", name := "listen", desc := "(I)I" } : Jvm.MethodName)) ∈ lw_all := lw_g (lw_at lw_m10 218 rfl) rfl
theorem q2488 : (Jvm.Cond.methodLink "VowelChoirLaw" (205 : Nat) ({ cls := "VowelChoirModel", name := "duty", desc := "(I)I" } : Jvm.MethodName)) ∈ lw_all := lw_g (lw_at lw_m10 230 rfl) rfl
theorem q2492 : (Jvm.Cond.methodLink "VowelChoirLaw" (208 : Nat) ({ cls := "VowelChoirModel", name := "range", desc := "(I)I" } : Jvm.MethodName)) ∈ lw_all := lw_g (lw_at lw_m10 234 rfl) rfl
theorem q2496 : (Jvm.Cond.methodLink "VowelChoirLaw" (212 : Nat) ({ cls := "VowelChoirModel", name := "quarrel", desc := "(III)I" } : Jvm.MethodName)) ∈ lw_all := lw_g (lw_at lw_m10 238 rfl) rfl
theorem q2506 : (Jvm.Cond.methodLink "VowelChoirLaw" (216 : Nat) ({ cls := "VowelChoirModel", name := "enough", desc := "(IIII)J" } : Jvm.MethodName)) ∈ lw_all := lw_g (lw_at lw_m11 8 rfl) rfl
theorem q2510 : (Jvm.Cond.methodLink "VowelChoirLaw" (219 : Nat) ({ cls := "VowelChoirModel", name := "rent", desc := "(III)I" } : Jvm.MethodName)) ∈ lw_all := lw_g (lw_at lw_m11 12 rfl) rfl
theorem q2518 : (Jvm.Cond.methodLink "VowelChoirLaw" (222 : Nat) ({ cls := "VowelChoirModel", name := "dearest", desc := "(I)I" } : Jvm.MethodName)) ∈ lw_all := lw_g (lw_at lw_m11 20 rfl) rfl
theorem q2522 : (Jvm.Cond.methodLink "VowelChoirLaw" (225 : Nat) ({ cls := "VowelChoirModel", name := "voices", desc := "(I)I" } : Jvm.MethodName)) ∈ lw_all := lw_g (lw_at lw_m11 24 rfl) rfl
theorem q2526 : (Jvm.Cond.methodLink "VowelChoirLaw" (228 : Nat) ({ cls := "VowelChoirModel", name := "sounds", desc := "(I)I" } : Jvm.MethodName)) ∈ lw_all := lw_g (lw_at lw_m11 28 rfl) rfl
theorem q2530 : (Jvm.Cond.methodLink "VowelChoirLaw" (231 : Nat) ({ cls := "VowelChoirModel", name := "beats", desc := "(I)I" } : Jvm.MethodName)) ∈ lw_all := lw_g (lw_at lw_m11 32 rfl) rfl
theorem q2534 : (Jvm.Cond.methodLink "VowelChoirLaw" (234 : Nat) ({ cls := "VowelChoirModel", name := "words", desc := "(I)I" } : Jvm.MethodName)) ∈ lw_all := lw_g (lw_at lw_m11 36 rfl) rfl
theorem q2538 : (Jvm.Cond.methodLink "VowelChoirLaw" (238 : Nat) ({ cls := "VowelChoirModel", name := "mute", desc := "()I" } : Jvm.MethodName)) ∈ lw_all := lw_g (lw_at lw_m11 40 rfl) rfl
theorem q2542 : (Jvm.Cond.methodLink "VowelChoirLaw" (242 : Nat) ({ cls := "VowelChoirModel", name := "idle", desc := "()I" } : Jvm.MethodName)) ∈ lw_all := lw_g (lw_at lw_m11 44 rfl) rfl
theorem q2546 : (Jvm.Cond.methodLink "VowelChoirLaw" (245 : Nat) ({ cls := "VowelChoirModel", name := "alone", desc := "(I)I" } : Jvm.MethodName)) ∈ lw_all := lw_g (lw_at lw_m11 48 rfl) rfl
theorem q2550 : (Jvm.Cond.methodLink "VowelChoirLaw" (248 : Nat) ({ cls := "VowelChoirModel", name := "longest", desc := "(I)I" } : Jvm.MethodName)) ∈ lw_all := lw_g (lw_at lw_m11 52 rfl) rfl
theorem q2554 : (Jvm.Cond.methodLink "VowelChoirLaw" (251 : Nat) ({ cls := "VowelChoirModel", name := "chorus", desc := "(I)I" } : Jvm.MethodName)) ∈ lw_all := lw_g (lw_at lw_m11 56 rfl) rfl
theorem q2558 : (Jvm.Cond.methodLink "VowelChoirLaw" (254 : Nat) ({ cls := "VowelChoirModel", name := "spare", desc := "(I)I" } : Jvm.MethodName)) ∈ lw_all := lw_g (lw_at lw_m11 60 rfl) rfl
theorem q2562 : (Jvm.Cond.methodLink "VowelChoirLaw" (257 : Nat) ({ cls := "VowelChoirModel", name := "sunday", desc := "(IIII)I" } : Jvm.MethodName)) ∈ lw_all := lw_g (lw_at lw_m11 64 rfl) rfl
theorem q2578 : (Jvm.Cond.methodLink "VowelChoirLaw" (261 : Nat) ({ cls := "VowelChoirModel", name := "span", desc := "(IIIIII)I" } : Jvm.MethodName)) ∈ lw_all := lw_g (lw_at lw_m11 80 rfl) rfl
theorem q2582 : (Jvm.Cond.methodLink "VowelChoirLaw" (265 : Nat) ({ cls := "VowelChoirModel", name := "image", desc := "()I" } : Jvm.MethodName)) ∈ lw_all := lw_g (lw_at lw_m11 84 rfl) rfl
theorem q2594 : (Jvm.Cond.methodLink "VowelChoirLaw" (269 : Nat) ({ cls := "VowelChoirModel", name := "restore", desc := "()I" } : Jvm.MethodName)) ∈ lw_all := lw_g (lw_at lw_m11 96 rfl) rfl
theorem q2598 : (Jvm.Cond.methodLink "VowelChoirLaw" (273 : Nat) ({ cls := "VowelChoirModel", name := "status", desc := "(I)I" } : Jvm.MethodName)) ∈ lw_all := lw_g (lw_at lw_m11 100 rfl) rfl
theorem q2602 : (Jvm.Cond.methodLink "VowelChoirLaw" (277 : Nat) ({ cls := "VowelChoirModel", name := "count", desc := "(I)I" } : Jvm.MethodName)) ∈ lw_all := lw_g (lw_at lw_m11 104 rfl) rfl
/-! VowelChoir$Singer -/
set_option maxRecDepth 100000
def RX10 : String := "VowelChoir$Singer"
def TX10 : u_T := fun k => match k with
  | 0 => ("VowelChoir$Singer", "vowel", "I", true)
  | 1 => ("VowelChoir$Singer", "pay", "I", true)
  | _ => ("VowelChoir$Singer", "breath", "I", true)
def tyX10 : Nat → FieldType := fun k => match k with
  | 0 => .int
  | 1 => .int
  | _ => .int
abbrev wsX100 : List Cond := u_ws RX10 TX10 3
theorem nmX10 : ∀ a, a < 3 → ∀ b, b < 3 → a ≠ b → (TX10 a).2.1 ≠ (TX10 b).2.1 := by decide +kernel
theorem tyX10_ok : ∀ k, k < 3 → parseFieldDescriptor (TX10 k).2.2.1 = some (tyX10 k) := by decide +kernel
abbrev cX10_init : ByteArray := prog_22_method_1_code
def yX10_init : MethodName := ⟨RX10, "<init>", "(III)V"⟩
def dkwX10_init_0 : List UInt8 := [42, 183, 0, 1, 42, 27, 181, 0, 7, 42, 28, 181, 0, 13, 42, 29, 181, 0, 16, 177]
abbrev dktX10_init_0 : List UInt8 := dkwX10_init_0 ++ []
theorem dksX10_init_0 : cX10_init.data.toList.drop 0 = dktX10_init_0 := by decide +kernel
theorem dX10_init_0 : decode cX10_init 0 = .ok (.aload_n 0, 1) := dk_42 (dk_at dksX10_init_0 0 rfl rfl)
theorem dX10_init_1 : decode cX10_init 1 = .ok (.invokespecial 1, 3) := dk_183 0 1 (dk_at dksX10_init_0 1 rfl rfl)
theorem dX10_init_4 : decode cX10_init 4 = .ok (.aload_n 0, 1) := dk_42 (dk_at dksX10_init_0 4 rfl rfl)
theorem dX10_init_5 : decode cX10_init 5 = .ok (.iload_n 1, 1) := dk_27 (dk_at dksX10_init_0 5 rfl rfl)
theorem dX10_init_6 : decode cX10_init 6 = .ok (.putfield 7, 3) := dk_181 0 7 (dk_at dksX10_init_0 6 rfl rfl)
theorem dX10_init_9 : decode cX10_init 9 = .ok (.aload_n 0, 1) := dk_42 (dk_at dksX10_init_0 9 rfl rfl)
theorem dX10_init_10 : decode cX10_init 10 = .ok (.iload_n 2, 1) := dk_28 (dk_at dksX10_init_0 10 rfl rfl)
theorem dX10_init_11 : decode cX10_init 11 = .ok (.putfield 13, 3) := dk_181 0 13 (dk_at dksX10_init_0 11 rfl rfl)
theorem dX10_init_14 : decode cX10_init 14 = .ok (.aload_n 0, 1) := dk_42 (dk_at dksX10_init_0 14 rfl rfl)
theorem dX10_init_15 : decode cX10_init 15 = .ok (.iload_n 3, 1) := dk_29 (dk_at dksX10_init_0 15 rfl rfl)
theorem dX10_init_16 : decode cX10_init 16 = .ok (.putfield 16, 3) := dk_181 0 16 (dk_at dksX10_init_0 16 rfl rfl)
theorem dX10_init_19 : decode cX10_init 19 = .ok (.return_, 1) := dk_177 (dk_at dksX10_init_0 19 rfl rfl)
theorem q128 : (Jvm.Cond.initialized "VowelChoir$Singer") ∈ lw_all := lw_g (lw_at lw_m1 30 rfl) rfl
theorem q1158 : (Jvm.Cond.instantiable "VowelChoir$Singer" (3 : Nat)) ∈ lw_all := lw_g (lw_at lw_m5 100 rfl) rfl
theorem q1160 : (Jvm.Cond.instanceMethod ({ cls := "VowelChoir$Singer", name := "<init>", desc := "(III)V" } : Jvm.MethodName)) ∈ lw_all := lw_g (lw_at lw_m5 102 rfl) rfl
theorem q1161 : (Jvm.Cond.code ({ cls := "VowelChoir$Singer", name := "<init>", desc := "(III)V" } : Jvm.MethodName) prog_22_method_1_code (4 : Nat) (Option.none : Option Jvm.ClassFile.FieldType)) ∈ lw_all := lw_g (lw_at lw_m5 103 rfl) rfl
theorem q1162 : (Jvm.Cond.methodLink "VowelChoir$Singer" (1 : Nat) ({ cls := "java/lang/Object", name := "<init>", desc := "()V" } : Jvm.MethodName)) ∈ lw_all := lw_g (lw_at lw_m5 104 rfl) rfl
theorem q1163 : (Jvm.Cond.fieldLink "VowelChoir$Singer" (7 : Nat) "VowelChoir$Singer" "vowel" "I") ∈ lw_all := lw_g (lw_at lw_m5 105 rfl) rfl
theorem q1166 : (Jvm.Cond.fieldLink "VowelChoir$Singer" (13 : Nat) "VowelChoir$Singer" "pay" "I") ∈ lw_all := lw_g (lw_at lw_m5 108 rfl) rfl
theorem q1169 : (Jvm.Cond.fieldLink "VowelChoir$Singer" (16 : Nat) "VowelChoir$Singer" "breath" "I") ∈ lw_all := lw_g (lw_at lw_m5 111 rfl) rfl
theorem q1172 : (Jvm.Cond.laysFinal "VowelChoir$Singer" "VowelChoir$Singer" "vowel" "I") ∈ lw_all := lw_g (lw_at lw_m5 114 rfl) rfl
theorem q1173 : (Jvm.Cond.soleField "VowelChoir$Singer" "vowel") ∈ lw_all := lw_g (lw_at lw_m5 115 rfl) rfl
theorem q1174 : (Jvm.Cond.laysFinal "VowelChoir$Singer" "VowelChoir$Singer" "pay" "I") ∈ lw_all := lw_g (lw_at lw_m5 116 rfl) rfl
theorem q1175 : (Jvm.Cond.soleField "VowelChoir$Singer" "pay") ∈ lw_all := lw_g (lw_at lw_m5 117 rfl) rfl
theorem q1176 : (Jvm.Cond.laysFinal "VowelChoir$Singer" "VowelChoir$Singer" "breath" "I") ∈ lw_all := lw_g (lw_at lw_m5 118 rfl) rfl
theorem q1177 : (Jvm.Cond.soleField "VowelChoir$Singer" "breath") ∈ lw_all := lw_g (lw_at lw_m5 119 rfl) rfl
theorem q1178 : (Jvm.Cond.superclass "VowelChoir$Singer" "java/lang/Object") ∈ lw_all := lw_g (lw_at lw_m5 120 rfl) rfl
theorem q1223 : (Jvm.Cond.selects "VowelChoir$Singer" ({ cls := "java/lang/Object", name := "getClass", desc := "()Ljava/lang/Class;" } : Jvm.MethodName) ({ cls := "java/lang/Object", name := "getClass", desc := "()Ljava/lang/Class;" } : Jvm.MethodName)) ∈ lw_all := lw_g (lw_at lw_m5 165 rfl) rfl
theorem q2647 : (Jvm.Cond.castable "VowelChoir$Singer" "java/lang/Object") ∈ lw_tbl := lw_at lw_m11 149 rfl
theorem in_X10 : ∀ w ∈ wsX100, w ∈ lw_all := lw_in wsX100 [1172, 1174, 1176] (by decide +kernel) (by decide +kernel)
/-! VowelChoir$Note -/
set_option maxRecDepth 100000
def RX11 : String := "VowelChoir$Note"
def TX11 : u_T := fun k => match k with
  | 0 => ("VowelChoir$Note", "vowel", "I", true)
  | _ => ("VowelChoir$Note", "length", "I", true)
def tyX11 : Nat → FieldType := fun k => match k with
  | 0 => .int
  | _ => .int
abbrev wsX110 : List Cond := u_ws RX11 TX11 2
theorem nmX11 : ∀ a, a < 2 → ∀ b, b < 2 → a ≠ b → (TX11 a).2.1 ≠ (TX11 b).2.1 := by decide +kernel
theorem tyX11_ok : ∀ k, k < 2 → parseFieldDescriptor (TX11 k).2.2.1 = some (tyX11 k) := by decide +kernel
abbrev cX11_init : ByteArray := prog_16_method_1_code
def yX11_init : MethodName := ⟨RX11, "<init>", "(II)V"⟩
def dkwX11_init_0 : List UInt8 := [42, 183, 0, 1, 42, 27, 181, 0, 7, 42, 28, 181, 0, 13, 177]
abbrev dktX11_init_0 : List UInt8 := dkwX11_init_0 ++ []
theorem dksX11_init_0 : cX11_init.data.toList.drop 0 = dktX11_init_0 := by decide +kernel
theorem dX11_init_0 : decode cX11_init 0 = .ok (.aload_n 0, 1) := dk_42 (dk_at dksX11_init_0 0 rfl rfl)
theorem dX11_init_1 : decode cX11_init 1 = .ok (.invokespecial 1, 3) := dk_183 0 1 (dk_at dksX11_init_0 1 rfl rfl)
theorem dX11_init_4 : decode cX11_init 4 = .ok (.aload_n 0, 1) := dk_42 (dk_at dksX11_init_0 4 rfl rfl)
theorem dX11_init_5 : decode cX11_init 5 = .ok (.iload_n 1, 1) := dk_27 (dk_at dksX11_init_0 5 rfl rfl)
theorem dX11_init_6 : decode cX11_init 6 = .ok (.putfield 7, 3) := dk_181 0 7 (dk_at dksX11_init_0 6 rfl rfl)
theorem dX11_init_9 : decode cX11_init 9 = .ok (.aload_n 0, 1) := dk_42 (dk_at dksX11_init_0 9 rfl rfl)
theorem dX11_init_10 : decode cX11_init 10 = .ok (.iload_n 2, 1) := dk_28 (dk_at dksX11_init_0 10 rfl rfl)
theorem dX11_init_11 : decode cX11_init 11 = .ok (.putfield 13, 3) := dk_181 0 13 (dk_at dksX11_init_0 11 rfl rfl)
theorem dX11_init_14 : decode cX11_init 14 = .ok (.return_, 1) := dk_177 (dk_at dksX11_init_0 14 rfl rfl)
theorem q129 : (Jvm.Cond.initialized "VowelChoir$Note") ∈ lw_all := lw_g (lw_at lw_m1 31 rfl) rfl
theorem q1218 : (Jvm.Cond.selects "VowelChoir$Note" ({ cls := "java/lang/Object", name := "getClass", desc := "()Ljava/lang/Class;" } : Jvm.MethodName) ({ cls := "java/lang/Object", name := "getClass", desc := "()Ljava/lang/Class;" } : Jvm.MethodName)) ∈ lw_all := lw_g (lw_at lw_m5 160 rfl) rfl
theorem q1246 : (Jvm.Cond.instantiable "VowelChoir$Note" (2 : Nat)) ∈ lw_all := lw_g (lw_at lw_m5 188 rfl) rfl
theorem q1248 : (Jvm.Cond.instanceMethod ({ cls := "VowelChoir$Note", name := "<init>", desc := "(II)V" } : Jvm.MethodName)) ∈ lw_all := lw_g (lw_at lw_m5 190 rfl) rfl
theorem q1249 : (Jvm.Cond.code ({ cls := "VowelChoir$Note", name := "<init>", desc := "(II)V" } : Jvm.MethodName) prog_16_method_1_code (3 : Nat) (Option.none : Option Jvm.ClassFile.FieldType)) ∈ lw_all := lw_g (lw_at lw_m5 191 rfl) rfl
theorem q1250 : (Jvm.Cond.methodLink "VowelChoir$Note" (1 : Nat) ({ cls := "java/lang/Object", name := "<init>", desc := "()V" } : Jvm.MethodName)) ∈ lw_all := lw_g (lw_at lw_m5 192 rfl) rfl
theorem q1251 : (Jvm.Cond.fieldLink "VowelChoir$Note" (7 : Nat) "VowelChoir$Note" "vowel" "I") ∈ lw_all := lw_g (lw_at lw_m5 193 rfl) rfl
theorem q1254 : (Jvm.Cond.fieldLink "VowelChoir$Note" (13 : Nat) "VowelChoir$Note" "length" "I") ∈ lw_all := lw_g (lw_at lw_m5 196 rfl) rfl
theorem q1257 : (Jvm.Cond.laysFinal "VowelChoir$Note" "VowelChoir$Note" "vowel" "I") ∈ lw_all := lw_g (lw_at lw_m5 199 rfl) rfl
theorem q1258 : (Jvm.Cond.soleField "VowelChoir$Note" "vowel") ∈ lw_all := lw_g (lw_at lw_m5 200 rfl) rfl
theorem q1259 : (Jvm.Cond.laysFinal "VowelChoir$Note" "VowelChoir$Note" "length" "I") ∈ lw_all := lw_g (lw_at lw_m5 201 rfl) rfl
theorem q1260 : (Jvm.Cond.soleField "VowelChoir$Note" "length") ∈ lw_all := lw_g (lw_at lw_m5 202 rfl) rfl
theorem q1261 : (Jvm.Cond.superclass "VowelChoir$Note" "java/lang/Object") ∈ lw_all := lw_g (lw_at lw_m5 203 rfl) rfl
theorem q2648 : (Jvm.Cond.castable "VowelChoir$Note" "java/lang/Object") ∈ lw_tbl := lw_at lw_m11 150 rfl
theorem in_X11 : ∀ w ∈ wsX110, w ∈ lw_all := lw_in wsX110 [1257, 1259] (by decide +kernel) (by decide +kernel)
/-! VowelChoir$Like -/
set_option maxRecDepth 100000
def RX12 : String := "VowelChoir$Like"
def TX12 : u_T := fun k => match k with
  | 0 => ("VowelChoir$Like", "note", "I", true)
  | _ => ("VowelChoir$Like", "vowel", "I", true)
def tyX12 : Nat → FieldType := fun k => match k with
  | 0 => .int
  | _ => .int
abbrev wsX120 : List Cond := u_ws RX12 TX12 2
theorem nmX12 : ∀ a, a < 2 → ∀ b, b < 2 → a ≠ b → (TX12 a).2.1 ≠ (TX12 b).2.1 := by decide +kernel
theorem tyX12_ok : ∀ k, k < 2 → parseFieldDescriptor (TX12 k).2.2.1 = some (tyX12 k) := by decide +kernel
abbrev cX12_init : ByteArray := prog_13_method_1_code
def yX12_init : MethodName := ⟨RX12, "<init>", "(II)V"⟩
def dkwX12_init_0 : List UInt8 := [42, 183, 0, 1, 42, 27, 181, 0, 7, 42, 28, 181, 0, 13, 177]
abbrev dktX12_init_0 : List UInt8 := dkwX12_init_0 ++ []
theorem dksX12_init_0 : cX12_init.data.toList.drop 0 = dktX12_init_0 := by decide +kernel
theorem dX12_init_0 : decode cX12_init 0 = .ok (.aload_n 0, 1) := dk_42 (dk_at dksX12_init_0 0 rfl rfl)
theorem dX12_init_1 : decode cX12_init 1 = .ok (.invokespecial 1, 3) := dk_183 0 1 (dk_at dksX12_init_0 1 rfl rfl)
theorem dX12_init_4 : decode cX12_init 4 = .ok (.aload_n 0, 1) := dk_42 (dk_at dksX12_init_0 4 rfl rfl)
theorem dX12_init_5 : decode cX12_init 5 = .ok (.iload_n 1, 1) := dk_27 (dk_at dksX12_init_0 5 rfl rfl)
theorem dX12_init_6 : decode cX12_init 6 = .ok (.putfield 7, 3) := dk_181 0 7 (dk_at dksX12_init_0 6 rfl rfl)
theorem dX12_init_9 : decode cX12_init 9 = .ok (.aload_n 0, 1) := dk_42 (dk_at dksX12_init_0 9 rfl rfl)
theorem dX12_init_10 : decode cX12_init 10 = .ok (.iload_n 2, 1) := dk_28 (dk_at dksX12_init_0 10 rfl rfl)
theorem dX12_init_11 : decode cX12_init 11 = .ok (.putfield 13, 3) := dk_181 0 13 (dk_at dksX12_init_0 11 rfl rfl)
theorem dX12_init_14 : decode cX12_init 14 = .ok (.return_, 1) := dk_177 (dk_at dksX12_init_0 14 rfl rfl)
theorem q130 : (Jvm.Cond.initialized "VowelChoir$Like") ∈ lw_all := lw_g (lw_at lw_m1 32 rfl) rfl
theorem q1215 : (Jvm.Cond.selects "VowelChoir$Like" ({ cls := "java/lang/Object", name := "getClass", desc := "()Ljava/lang/Class;" } : Jvm.MethodName) ({ cls := "java/lang/Object", name := "getClass", desc := "()Ljava/lang/Class;" } : Jvm.MethodName)) ∈ lw_all := lw_g (lw_at lw_m5 157 rfl) rfl
theorem q1263 : (Jvm.Cond.instantiable "VowelChoir$Like" (2 : Nat)) ∈ lw_all := lw_g (lw_at lw_m5 205 rfl) rfl
theorem q1265 : (Jvm.Cond.instanceMethod ({ cls := "VowelChoir$Like", name := "<init>", desc := "(II)V" } : Jvm.MethodName)) ∈ lw_all := lw_g (lw_at lw_m5 207 rfl) rfl
theorem q1266 : (Jvm.Cond.code ({ cls := "VowelChoir$Like", name := "<init>", desc := "(II)V" } : Jvm.MethodName) prog_13_method_1_code (3 : Nat) (Option.none : Option Jvm.ClassFile.FieldType)) ∈ lw_all := lw_g (lw_at lw_m5 208 rfl) rfl
theorem q1267 : (Jvm.Cond.methodLink "VowelChoir$Like" (1 : Nat) ({ cls := "java/lang/Object", name := "<init>", desc := "()V" } : Jvm.MethodName)) ∈ lw_all := lw_g (lw_at lw_m5 209 rfl) rfl
theorem q1268 : (Jvm.Cond.fieldLink "VowelChoir$Like" (7 : Nat) "VowelChoir$Like" "note" "I") ∈ lw_all := lw_g (lw_at lw_m5 210 rfl) rfl
theorem q1270 : (Jvm.Cond.fieldLink "VowelChoir$Like" (13 : Nat) "VowelChoir$Like" "vowel" "I") ∈ lw_all := lw_g (lw_at lw_m5 212 rfl) rfl
theorem q1272 : (Jvm.Cond.laysFinal "VowelChoir$Like" "VowelChoir$Like" "note" "I") ∈ lw_all := lw_g (lw_at lw_m5 214 rfl) rfl
theorem q1273 : (Jvm.Cond.soleField "VowelChoir$Like" "note") ∈ lw_all := lw_g (lw_at lw_m5 215 rfl) rfl
theorem q1274 : (Jvm.Cond.laysFinal "VowelChoir$Like" "VowelChoir$Like" "vowel" "I") ∈ lw_all := lw_g (lw_at lw_m5 216 rfl) rfl
theorem q1275 : (Jvm.Cond.soleField "VowelChoir$Like" "vowel") ∈ lw_all := lw_g (lw_at lw_m5 217 rfl) rfl
theorem q1276 : (Jvm.Cond.superclass "VowelChoir$Like" "java/lang/Object") ∈ lw_all := lw_g (lw_at lw_m5 218 rfl) rfl
theorem q2649 : (Jvm.Cond.castable "VowelChoir$Like" "java/lang/Object") ∈ lw_tbl := lw_at lw_m11 151 rfl
theorem in_X12 : ∀ w ∈ wsX120, w ∈ lw_all := lw_in wsX120 [1272, 1274] (by decide +kernel) (by decide +kernel)
/-! VowelChoir$LawReader -/
set_option maxRecDepth 100000
def RX13 : String := "VowelChoir$LawReader"
def TX13 : u_T := fun k => match k with
  | 0 => ("VowelChoir$Reader", "text", "[B", true)
  | 1 => ("VowelChoir$Reader", "size", "I", true)
  | 2 => ("VowelChoir$Reader", "next", "I", false)
  | 3 => ("VowelChoir$Reader", "from", "I", false)
  | _ => ("VowelChoir$Reader", "open", "I", false)
def tyX13 : Nat → FieldType := fun k => match k with
  | 0 => .array .byte
  | 1 => .int
  | 2 => .int
  | 3 => .int
  | _ => .int
abbrev wsX130 : List Cond := u_ws RX13 TX13 5
theorem nmX13 : ∀ a, a < 5 → ∀ b, b < 5 → a ≠ b → (TX13 a).2.1 ≠ (TX13 b).2.1 := by decide +kernel
theorem tyX13_ok : ∀ k, k < 5 → parseFieldDescriptor (TX13 k).2.2.1 = some (tyX13 k) := by decide +kernel
abbrev cX13_init : ByteArray := prog_10_method_1_code
def yX13_init : MethodName := ⟨RX13, "<init>", "([BI)V"⟩
def dkwX13_init_0 : List UInt8 := [42, 43, 28, 183, 0, 3, 177]
abbrev dktX13_init_0 : List UInt8 := dkwX13_init_0 ++ []
theorem dksX13_init_0 : cX13_init.data.toList.drop 0 = dktX13_init_0 := by decide +kernel
theorem dX13_init_0 : decode cX13_init 0 = .ok (.aload_n 0, 1) := dk_42 (dk_at dksX13_init_0 0 rfl rfl)
theorem dX13_init_1 : decode cX13_init 1 = .ok (.aload_n 1, 1) := dk_43 (dk_at dksX13_init_0 1 rfl rfl)
theorem dX13_init_2 : decode cX13_init 2 = .ok (.iload_n 2, 1) := dk_28 (dk_at dksX13_init_0 2 rfl rfl)
theorem dX13_init_3 : decode cX13_init 3 = .ok (.invokespecial 3, 3) := dk_183 0 3 (dk_at dksX13_init_0 3 rfl rfl)
theorem dX13_init_6 : decode cX13_init 6 = .ok (.return_, 1) := dk_177 (dk_at dksX13_init_0 6 rfl rfl)
abbrev cX13_reads : ByteArray := prog_10_method_2_code
def yX13_reads : MethodName := ⟨RX13, "reads", "()LVowelChoir$Term;"⟩
def dkwX13_reads_1 : List UInt8 := [182, 0, 26, 191, 43, 176]
abbrev dktX13_reads_1 : List UInt8 := dkwX13_reads_1 ++ []
def dkwX13_reads_0 : List UInt8 := [42, 182, 0, 9, 76, 42, 182, 0, 15, 87, 42, 180, 0, 19, 42, 180, 0, 23, 162, 0, 8, 42]
abbrev dktX13_reads_0 : List UInt8 := dkwX13_reads_0 ++ dktX13_reads_1
theorem dksX13_reads_0 : cX13_reads.data.toList.drop 0 = dktX13_reads_0 := by decide +kernel
theorem dksX13_reads_1 : cX13_reads.data.toList.drop 22 = dktX13_reads_1 := dk_seg dksX13_reads_0 22 rfl rfl
theorem dX13_reads_0 : decode cX13_reads 0 = .ok (.aload_n 0, 1) := dk_42 (dk_at dksX13_reads_0 0 rfl rfl)
theorem dX13_reads_1 : decode cX13_reads 1 = .ok (.invokevirtual 9, 3) := dk_182 0 9 (dk_at dksX13_reads_0 1 rfl rfl)
theorem dX13_reads_4 : decode cX13_reads 4 = .ok (.astore_n 1, 1) := dk_76 (dk_at dksX13_reads_0 4 rfl rfl)
theorem dX13_reads_5 : decode cX13_reads 5 = .ok (.aload_n 0, 1) := dk_42 (dk_at dksX13_reads_0 5 rfl rfl)
theorem dX13_reads_6 : decode cX13_reads 6 = .ok (.invokevirtual 15, 3) := dk_182 0 15 (dk_at dksX13_reads_0 6 rfl rfl)
theorem dX13_reads_9 : decode cX13_reads 9 = .ok (.pop, 1) := dk_87 (dk_at dksX13_reads_0 9 rfl rfl)
theorem dX13_reads_10 : decode cX13_reads 10 = .ok (.aload_n 0, 1) := dk_42 (dk_at dksX13_reads_0 10 rfl rfl)
theorem dX13_reads_11 : decode cX13_reads 11 = .ok (.getfield 19, 3) := dk_180 0 19 (dk_at dksX13_reads_0 11 rfl rfl)
theorem dX13_reads_14 : decode cX13_reads 14 = .ok (.aload_n 0, 1) := dk_42 (dk_at dksX13_reads_0 14 rfl rfl)
theorem dX13_reads_15 : decode cX13_reads 15 = .ok (.getfield 23, 3) := dk_180 0 23 (dk_at dksX13_reads_0 15 rfl rfl)
theorem dX13_reads_18 : decode cX13_reads 18 = .ok (.if_icmp .ge 8, 3) := dk_162 0 8 (dk_at dksX13_reads_0 18 rfl rfl)
theorem dX13_reads_21 : decode cX13_reads 21 = .ok (.aload_n 0, 1) := dk_42 (dk_at dksX13_reads_0 21 rfl rfl)
theorem dX13_reads_22 : decode cX13_reads 22 = .ok (.invokevirtual 26, 3) := dk_182 0 26 (dk_at dksX13_reads_1 0 rfl rfl)
theorem dX13_reads_25 : decode cX13_reads 25 = .ok (.athrow, 1) := dk_191 (dk_at dksX13_reads_1 3 rfl rfl)
theorem dX13_reads_26 : decode cX13_reads 26 = .ok (.aload_n 1, 1) := dk_43 (dk_at dksX13_reads_1 4 rfl rfl)
theorem dX13_reads_27 : decode cX13_reads 27 = .ok (.areturn, 1) := dk_176 (dk_at dksX13_reads_1 5 rfl rfl)
abbrev cX13_sum : ByteArray := prog_10_method_3_code
def yX13_sum : MethodName := ⟨RX13, "sum", "()LVowelChoir$Term;"⟩
def dkwX13_sum_3 : List UInt8 := [89, 43, 45, 183, 0, 40, 76, 167, 255, 182, 43, 176]
abbrev dktX13_sum_3 : List UInt8 := dkwX13_sum_3 ++ []
def dkwX13_sum_2 : List UInt8 := [42, 182, 0, 30, 78, 28, 153, 0, 15, 187, 0, 33, 89, 43, 45, 183, 0, 35, 167, 0, 12, 187, 0, 38]
abbrev dktX13_sum_2 : List UInt8 := dkwX13_sum_2 ++ dktX13_sum_3
def dkwX13_sum_1 : List UInt8 := [182, 0, 15, 16, 43, 160, 0, 7, 4, 167, 0, 4, 3, 61, 42, 89, 180, 0, 19, 4, 96, 181, 0, 19]
abbrev dktX13_sum_1 : List UInt8 := dkwX13_sum_1 ++ dktX13_sum_2
def dkwX13_sum_0 : List UInt8 := [42, 182, 0, 30, 76, 42, 182, 0, 15, 16, 43, 159, 0, 12, 42, 182, 0, 15, 16, 45, 160, 0, 62, 42]
abbrev dktX13_sum_0 : List UInt8 := dkwX13_sum_0 ++ dktX13_sum_1
theorem dksX13_sum_0 : cX13_sum.data.toList.drop 0 = dktX13_sum_0 := by decide +kernel
theorem dksX13_sum_1 : cX13_sum.data.toList.drop 24 = dktX13_sum_1 := dk_seg dksX13_sum_0 24 rfl rfl
theorem dksX13_sum_2 : cX13_sum.data.toList.drop 48 = dktX13_sum_2 := dk_seg dksX13_sum_1 24 rfl rfl
theorem dksX13_sum_3 : cX13_sum.data.toList.drop 72 = dktX13_sum_3 := dk_seg dksX13_sum_2 24 rfl rfl
theorem dX13_sum_0 : decode cX13_sum 0 = .ok (.aload_n 0, 1) := dk_42 (dk_at dksX13_sum_0 0 rfl rfl)
theorem dX13_sum_1 : decode cX13_sum 1 = .ok (.invokevirtual 30, 3) := dk_182 0 30 (dk_at dksX13_sum_0 1 rfl rfl)
theorem dX13_sum_4 : decode cX13_sum 4 = .ok (.astore_n 1, 1) := dk_76 (dk_at dksX13_sum_0 4 rfl rfl)
theorem dX13_sum_5 : decode cX13_sum 5 = .ok (.aload_n 0, 1) := dk_42 (dk_at dksX13_sum_0 5 rfl rfl)
theorem dX13_sum_6 : decode cX13_sum 6 = .ok (.invokevirtual 15, 3) := dk_182 0 15 (dk_at dksX13_sum_0 6 rfl rfl)
theorem dX13_sum_9 : decode cX13_sum 9 = .ok (.bipush 43, 2) := dk_16 43 (dk_at dksX13_sum_0 9 rfl rfl)
theorem dX13_sum_11 : decode cX13_sum 11 = .ok (.if_icmp .eq 12, 3) := dk_159 0 12 (dk_at dksX13_sum_0 11 rfl rfl)
theorem dX13_sum_14 : decode cX13_sum 14 = .ok (.aload_n 0, 1) := dk_42 (dk_at dksX13_sum_0 14 rfl rfl)
theorem dX13_sum_15 : decode cX13_sum 15 = .ok (.invokevirtual 15, 3) := dk_182 0 15 (dk_at dksX13_sum_0 15 rfl rfl)
theorem dX13_sum_18 : decode cX13_sum 18 = .ok (.bipush 45, 2) := dk_16 45 (dk_at dksX13_sum_0 18 rfl rfl)
theorem dX13_sum_20 : decode cX13_sum 20 = .ok (.if_icmp .ne 62, 3) := dk_160 0 62 (dk_at dksX13_sum_0 20 rfl rfl)
theorem dX13_sum_23 : decode cX13_sum 23 = .ok (.aload_n 0, 1) := dk_42 (dk_at dksX13_sum_0 23 rfl rfl)
theorem dX13_sum_24 : decode cX13_sum 24 = .ok (.invokevirtual 15, 3) := dk_182 0 15 (dk_at dksX13_sum_1 0 rfl rfl)
theorem dX13_sum_27 : decode cX13_sum 27 = .ok (.bipush 43, 2) := dk_16 43 (dk_at dksX13_sum_1 3 rfl rfl)
theorem dX13_sum_29 : decode cX13_sum 29 = .ok (.if_icmp .ne 7, 3) := dk_160 0 7 (dk_at dksX13_sum_1 5 rfl rfl)
theorem dX13_sum_32 : decode cX13_sum 32 = .ok (.iconst 1, 1) := dk_4 (dk_at dksX13_sum_1 8 rfl rfl)
theorem dX13_sum_33 : decode cX13_sum 33 = .ok (.goto 4, 3) := dk_167 0 4 (dk_at dksX13_sum_1 9 rfl rfl)
theorem dX13_sum_36 : decode cX13_sum 36 = .ok (.iconst 0, 1) := dk_3 (dk_at dksX13_sum_1 12 rfl rfl)
theorem dX13_sum_37 : decode cX13_sum 37 = .ok (.istore_n 2, 1) := dk_61 (dk_at dksX13_sum_1 13 rfl rfl)
theorem dX13_sum_38 : decode cX13_sum 38 = .ok (.aload_n 0, 1) := dk_42 (dk_at dksX13_sum_1 14 rfl rfl)
theorem dX13_sum_39 : decode cX13_sum 39 = .ok (.dup, 1) := dk_89 (dk_at dksX13_sum_1 15 rfl rfl)
theorem dX13_sum_40 : decode cX13_sum 40 = .ok (.getfield 19, 3) := dk_180 0 19 (dk_at dksX13_sum_1 16 rfl rfl)
theorem dX13_sum_43 : decode cX13_sum 43 = .ok (.iconst 1, 1) := dk_4 (dk_at dksX13_sum_1 19 rfl rfl)
theorem dX13_sum_44 : decode cX13_sum 44 = .ok (.iadd, 1) := dk_96 (dk_at dksX13_sum_1 20 rfl rfl)
theorem dX13_sum_45 : decode cX13_sum 45 = .ok (.putfield 19, 3) := dk_181 0 19 (dk_at dksX13_sum_1 21 rfl rfl)
theorem dX13_sum_48 : decode cX13_sum 48 = .ok (.aload_n 0, 1) := dk_42 (dk_at dksX13_sum_2 0 rfl rfl)
theorem dX13_sum_49 : decode cX13_sum 49 = .ok (.invokevirtual 30, 3) := dk_182 0 30 (dk_at dksX13_sum_2 1 rfl rfl)
theorem dX13_sum_52 : decode cX13_sum 52 = .ok (.astore_n 3, 1) := dk_78 (dk_at dksX13_sum_2 4 rfl rfl)
theorem dX13_sum_53 : decode cX13_sum 53 = .ok (.iload_n 2, 1) := dk_28 (dk_at dksX13_sum_2 5 rfl rfl)
theorem dX13_sum_54 : decode cX13_sum 54 = .ok (.ifCond .eq 15, 3) := dk_153 0 15 (dk_at dksX13_sum_2 6 rfl rfl)
theorem dX13_sum_57 : decode cX13_sum 57 = .ok (.new 33, 3) := dk_187 0 33 (dk_at dksX13_sum_2 9 rfl rfl)
theorem dX13_sum_60 : decode cX13_sum 60 = .ok (.dup, 1) := dk_89 (dk_at dksX13_sum_2 12 rfl rfl)
theorem dX13_sum_61 : decode cX13_sum 61 = .ok (.aload_n 1, 1) := dk_43 (dk_at dksX13_sum_2 13 rfl rfl)
theorem dX13_sum_62 : decode cX13_sum 62 = .ok (.aload_n 3, 1) := dk_45 (dk_at dksX13_sum_2 14 rfl rfl)
theorem dX13_sum_63 : decode cX13_sum 63 = .ok (.invokespecial 35, 3) := dk_183 0 35 (dk_at dksX13_sum_2 15 rfl rfl)
theorem dX13_sum_66 : decode cX13_sum 66 = .ok (.goto 12, 3) := dk_167 0 12 (dk_at dksX13_sum_2 18 rfl rfl)
theorem dX13_sum_69 : decode cX13_sum 69 = .ok (.new 38, 3) := dk_187 0 38 (dk_at dksX13_sum_2 21 rfl rfl)
theorem dX13_sum_72 : decode cX13_sum 72 = .ok (.dup, 1) := dk_89 (dk_at dksX13_sum_3 0 rfl rfl)
theorem dX13_sum_73 : decode cX13_sum 73 = .ok (.aload_n 1, 1) := dk_43 (dk_at dksX13_sum_3 1 rfl rfl)
theorem dX13_sum_74 : decode cX13_sum 74 = .ok (.aload_n 3, 1) := dk_45 (dk_at dksX13_sum_3 2 rfl rfl)
theorem dX13_sum_75 : decode cX13_sum 75 = .ok (.invokespecial 40, 3) := dk_183 0 40 (dk_at dksX13_sum_3 3 rfl rfl)
theorem dX13_sum_78 : decode cX13_sum 78 = .ok (.astore_n 1, 1) := dk_76 (dk_at dksX13_sum_3 6 rfl rfl)
theorem dX13_sum_79 : decode cX13_sum 79 = .ok (.goto (-74), 3) := dk_167 255 182 (dk_at dksX13_sum_3 7 rfl rfl)
theorem dX13_sum_82 : decode cX13_sum 82 = .ok (.aload_n 1, 1) := dk_43 (dk_at dksX13_sum_3 10 rfl rfl)
theorem dX13_sum_83 : decode cX13_sum 83 = .ok (.areturn, 1) := dk_176 (dk_at dksX13_sum_3 11 rfl rfl)
abbrev cX13_product : ByteArray := prog_10_method_4_code
def yX13_product : MethodName := ⟨RX13, "product", "()LVowelChoir$Term;"⟩
def dkwX13_product_4 : List UInt8 := [183, 0, 52, 76, 167, 255, 163, 43, 176]
abbrev dktX13_product_4 : List UInt8 := dkwX13_product_4 ++ []
def dkwX13_product_3 : List UInt8 := [16, 47, 160, 0, 15, 187, 0, 47, 89, 43, 45, 183, 0, 49, 167, 0, 12, 187, 0, 50, 89, 43, 45]
abbrev dktX13_product_3 : List UInt8 := dkwX13_product_3 ++ dktX13_product_4
def dkwX13_product_2 : List UInt8 := [182, 0, 41, 78, 28, 16, 42, 160, 0, 15, 187, 0, 44, 89, 43, 45, 183, 0, 46, 167, 0, 30, 28]
abbrev dktX13_product_2 : List UInt8 := dkwX13_product_2 ++ dktX13_product_3
def dkwX13_product_1 : List UInt8 := [182, 0, 15, 16, 37, 160, 0, 72, 42, 182, 0, 15, 61, 42, 89, 180, 0, 19, 4, 96, 181, 0, 19, 42]
abbrev dktX13_product_1 : List UInt8 := dkwX13_product_1 ++ dktX13_product_2
def dkwX13_product_0 : List UInt8 := [42, 182, 0, 41, 76, 42, 182, 0, 15, 16, 42, 159, 0, 21, 42, 182, 0, 15, 16, 47, 159, 0, 12, 42]
abbrev dktX13_product_0 : List UInt8 := dkwX13_product_0 ++ dktX13_product_1
theorem dksX13_product_0 : cX13_product.data.toList.drop 0 = dktX13_product_0 := by decide +kernel
theorem dksX13_product_1 : cX13_product.data.toList.drop 24 = dktX13_product_1 := dk_seg dksX13_product_0 24 rfl rfl
theorem dksX13_product_2 : cX13_product.data.toList.drop 48 = dktX13_product_2 := dk_seg dksX13_product_1 24 rfl rfl
theorem dksX13_product_3 : cX13_product.data.toList.drop 71 = dktX13_product_3 := dk_seg dksX13_product_2 23 rfl rfl
theorem dksX13_product_4 : cX13_product.data.toList.drop 94 = dktX13_product_4 := dk_seg dksX13_product_3 23 rfl rfl
theorem dX13_product_0 : decode cX13_product 0 = .ok (.aload_n 0, 1) := dk_42 (dk_at dksX13_product_0 0 rfl rfl)
theorem dX13_product_1 : decode cX13_product 1 = .ok (.invokevirtual 41, 3) := dk_182 0 41 (dk_at dksX13_product_0 1 rfl rfl)
theorem dX13_product_4 : decode cX13_product 4 = .ok (.astore_n 1, 1) := dk_76 (dk_at dksX13_product_0 4 rfl rfl)
theorem dX13_product_5 : decode cX13_product 5 = .ok (.aload_n 0, 1) := dk_42 (dk_at dksX13_product_0 5 rfl rfl)
theorem dX13_product_6 : decode cX13_product 6 = .ok (.invokevirtual 15, 3) := dk_182 0 15 (dk_at dksX13_product_0 6 rfl rfl)
theorem dX13_product_9 : decode cX13_product 9 = .ok (.bipush 42, 2) := dk_16 42 (dk_at dksX13_product_0 9 rfl rfl)
theorem dX13_product_11 : decode cX13_product 11 = .ok (.if_icmp .eq 21, 3) := dk_159 0 21 (dk_at dksX13_product_0 11 rfl rfl)
theorem dX13_product_14 : decode cX13_product 14 = .ok (.aload_n 0, 1) := dk_42 (dk_at dksX13_product_0 14 rfl rfl)
theorem dX13_product_15 : decode cX13_product 15 = .ok (.invokevirtual 15, 3) := dk_182 0 15 (dk_at dksX13_product_0 15 rfl rfl)
theorem dX13_product_18 : decode cX13_product 18 = .ok (.bipush 47, 2) := dk_16 47 (dk_at dksX13_product_0 18 rfl rfl)
theorem dX13_product_20 : decode cX13_product 20 = .ok (.if_icmp .eq 12, 3) := dk_159 0 12 (dk_at dksX13_product_0 20 rfl rfl)
theorem dX13_product_23 : decode cX13_product 23 = .ok (.aload_n 0, 1) := dk_42 (dk_at dksX13_product_0 23 rfl rfl)
theorem dX13_product_24 : decode cX13_product 24 = .ok (.invokevirtual 15, 3) := dk_182 0 15 (dk_at dksX13_product_1 0 rfl rfl)
theorem dX13_product_27 : decode cX13_product 27 = .ok (.bipush 37, 2) := dk_16 37 (dk_at dksX13_product_1 3 rfl rfl)
theorem dX13_product_29 : decode cX13_product 29 = .ok (.if_icmp .ne 72, 3) := dk_160 0 72 (dk_at dksX13_product_1 5 rfl rfl)
theorem dX13_product_32 : decode cX13_product 32 = .ok (.aload_n 0, 1) := dk_42 (dk_at dksX13_product_1 8 rfl rfl)
theorem dX13_product_33 : decode cX13_product 33 = .ok (.invokevirtual 15, 3) := dk_182 0 15 (dk_at dksX13_product_1 9 rfl rfl)
theorem dX13_product_36 : decode cX13_product 36 = .ok (.istore_n 2, 1) := dk_61 (dk_at dksX13_product_1 12 rfl rfl)
theorem dX13_product_37 : decode cX13_product 37 = .ok (.aload_n 0, 1) := dk_42 (dk_at dksX13_product_1 13 rfl rfl)
theorem dX13_product_38 : decode cX13_product 38 = .ok (.dup, 1) := dk_89 (dk_at dksX13_product_1 14 rfl rfl)
theorem dX13_product_39 : decode cX13_product 39 = .ok (.getfield 19, 3) := dk_180 0 19 (dk_at dksX13_product_1 15 rfl rfl)
theorem dX13_product_42 : decode cX13_product 42 = .ok (.iconst 1, 1) := dk_4 (dk_at dksX13_product_1 18 rfl rfl)
theorem dX13_product_43 : decode cX13_product 43 = .ok (.iadd, 1) := dk_96 (dk_at dksX13_product_1 19 rfl rfl)
theorem dX13_product_44 : decode cX13_product 44 = .ok (.putfield 19, 3) := dk_181 0 19 (dk_at dksX13_product_1 20 rfl rfl)
theorem dX13_product_47 : decode cX13_product 47 = .ok (.aload_n 0, 1) := dk_42 (dk_at dksX13_product_1 23 rfl rfl)
theorem dX13_product_48 : decode cX13_product 48 = .ok (.invokevirtual 41, 3) := dk_182 0 41 (dk_at dksX13_product_2 0 rfl rfl)
theorem dX13_product_51 : decode cX13_product 51 = .ok (.astore_n 3, 1) := dk_78 (dk_at dksX13_product_2 3 rfl rfl)
theorem dX13_product_52 : decode cX13_product 52 = .ok (.iload_n 2, 1) := dk_28 (dk_at dksX13_product_2 4 rfl rfl)
theorem dX13_product_53 : decode cX13_product 53 = .ok (.bipush 42, 2) := dk_16 42 (dk_at dksX13_product_2 5 rfl rfl)
theorem dX13_product_55 : decode cX13_product 55 = .ok (.if_icmp .ne 15, 3) := dk_160 0 15 (dk_at dksX13_product_2 7 rfl rfl)
theorem dX13_product_58 : decode cX13_product 58 = .ok (.new 44, 3) := dk_187 0 44 (dk_at dksX13_product_2 10 rfl rfl)
theorem dX13_product_61 : decode cX13_product 61 = .ok (.dup, 1) := dk_89 (dk_at dksX13_product_2 13 rfl rfl)
theorem dX13_product_62 : decode cX13_product 62 = .ok (.aload_n 1, 1) := dk_43 (dk_at dksX13_product_2 14 rfl rfl)
theorem dX13_product_63 : decode cX13_product 63 = .ok (.aload_n 3, 1) := dk_45 (dk_at dksX13_product_2 15 rfl rfl)
theorem dX13_product_64 : decode cX13_product 64 = .ok (.invokespecial 46, 3) := dk_183 0 46 (dk_at dksX13_product_2 16 rfl rfl)
theorem dX13_product_67 : decode cX13_product 67 = .ok (.goto 30, 3) := dk_167 0 30 (dk_at dksX13_product_2 19 rfl rfl)
theorem dX13_product_70 : decode cX13_product 70 = .ok (.iload_n 2, 1) := dk_28 (dk_at dksX13_product_2 22 rfl rfl)
theorem dX13_product_71 : decode cX13_product 71 = .ok (.bipush 47, 2) := dk_16 47 (dk_at dksX13_product_3 0 rfl rfl)
theorem dX13_product_73 : decode cX13_product 73 = .ok (.if_icmp .ne 15, 3) := dk_160 0 15 (dk_at dksX13_product_3 2 rfl rfl)
theorem dX13_product_76 : decode cX13_product 76 = .ok (.new 47, 3) := dk_187 0 47 (dk_at dksX13_product_3 5 rfl rfl)
theorem dX13_product_79 : decode cX13_product 79 = .ok (.dup, 1) := dk_89 (dk_at dksX13_product_3 8 rfl rfl)
theorem dX13_product_80 : decode cX13_product 80 = .ok (.aload_n 1, 1) := dk_43 (dk_at dksX13_product_3 9 rfl rfl)
theorem dX13_product_81 : decode cX13_product 81 = .ok (.aload_n 3, 1) := dk_45 (dk_at dksX13_product_3 10 rfl rfl)
theorem dX13_product_82 : decode cX13_product 82 = .ok (.invokespecial 49, 3) := dk_183 0 49 (dk_at dksX13_product_3 11 rfl rfl)
theorem dX13_product_85 : decode cX13_product 85 = .ok (.goto 12, 3) := dk_167 0 12 (dk_at dksX13_product_3 14 rfl rfl)
theorem dX13_product_88 : decode cX13_product 88 = .ok (.new 50, 3) := dk_187 0 50 (dk_at dksX13_product_3 17 rfl rfl)
theorem dX13_product_91 : decode cX13_product 91 = .ok (.dup, 1) := dk_89 (dk_at dksX13_product_3 20 rfl rfl)
theorem dX13_product_92 : decode cX13_product 92 = .ok (.aload_n 1, 1) := dk_43 (dk_at dksX13_product_3 21 rfl rfl)
theorem dX13_product_93 : decode cX13_product 93 = .ok (.aload_n 3, 1) := dk_45 (dk_at dksX13_product_3 22 rfl rfl)
theorem dX13_product_94 : decode cX13_product 94 = .ok (.invokespecial 52, 3) := dk_183 0 52 (dk_at dksX13_product_4 0 rfl rfl)
theorem dX13_product_97 : decode cX13_product 97 = .ok (.astore_n 1, 1) := dk_76 (dk_at dksX13_product_4 3 rfl rfl)
theorem dX13_product_98 : decode cX13_product 98 = .ok (.goto (-93), 3) := dk_167 255 163 (dk_at dksX13_product_4 4 rfl rfl)
theorem dX13_product_101 : decode cX13_product 101 = .ok (.aload_n 1, 1) := dk_43 (dk_at dksX13_product_4 7 rfl rfl)
theorem dX13_product_102 : decode cX13_product 102 = .ok (.areturn, 1) := dk_176 (dk_at dksX13_product_4 8 rfl rfl)
abbrev cX13_unit : ByteArray := prog_10_method_5_code
def yX13_unit : MethodName := ⟨RX13, "unit", "()LVowelChoir$Term;"⟩
def dkwX13_unit_15 : List UInt8 := [182, 0, 104, 176, 42, 44, 16, 7, 182, 0, 104, 176, 42, 44, 182, 0, 108, 176, 42, 182, 0, 26, 191]
abbrev dktX13_unit_15 : List UInt8 := dkwX13_unit_15 ++ []
def dkwX13_unit_14 : List UInt8 := [182, 0, 104, 176, 42, 44, 7, 182, 0, 104, 176, 42, 44, 8, 182, 0, 104, 176, 42, 44, 16, 6]
abbrev dktX13_unit_14 : List UInt8 := dkwX13_unit_14 ++ dktX13_unit_15
def dkwX13_unit_13 : List UInt8 := [42, 44, 3, 182, 0, 104, 176, 42, 44, 4, 182, 0, 104, 176, 42, 44, 5, 182, 0, 104, 176, 42, 44, 6]
abbrev dktX13_unit_13 : List UInt8 := dkwX13_unit_13 ++ dktX13_unit_14
def dkwX13_unit_12 : List UInt8 := [170, 0, 0, 0, 0, 0, 119, 0, 0, 0, 0, 0, 0, 0, 9, 0, 0, 0, 55, 0, 0, 0, 62, 0, 0, 0, 69, 0, 0, 0, 76, 0, 0, 0, 83, 0, 0, 0, 90, 0, 0, 0, 97, 0, 0, 0, 105, 0, 0, 0, 113, 0, 0, 0, 113]
abbrev dktX13_unit_12 : List UInt8 := dkwX13_unit_12 ++ dktX13_unit_13
def dkwX13_unit_11 : List UInt8 := [182, 0, 82, 153, 0, 7, 16, 9, 54, 4, 21, 4]
abbrev dktX13_unit_11 : List UInt8 := dkwX13_unit_11 ++ dktX13_unit_12
def dkwX13_unit_10 : List UInt8 := [167, 0, 32, 45, 18, 100, 182, 0, 82, 153, 0, 23, 16, 8, 54, 4, 167, 0, 16, 45, 18, 102]
abbrev dktX13_unit_10 : List UInt8 := dkwX13_unit_10 ++ dktX13_unit_11
def dkwX13_unit_9 : List UInt8 := [153, 0, 55, 16, 6, 54, 4, 167, 0, 48, 45, 18, 98, 182, 0, 82, 153, 0, 39, 16, 7, 54, 4]
abbrev dktX13_unit_9 : List UInt8 := dkwX13_unit_9 ++ dktX13_unit_10
def dkwX13_unit_8 : List UInt8 := [167, 0, 79, 45, 18, 94, 182, 0, 82, 153, 0, 70, 8, 54, 4, 167, 0, 64, 45, 18, 96, 182, 0, 82]
abbrev dktX13_unit_8 : List UInt8 := dkwX13_unit_8 ++ dktX13_unit_9
def dkwX13_unit_7 : List UInt8 := [182, 0, 82, 153, 0, 100, 6, 54, 4, 167, 0, 94, 45, 18, 92, 182, 0, 82, 153, 0, 85, 7, 54, 4]
abbrev dktX13_unit_7 : List UInt8 := dkwX13_unit_7 ++ dktX13_unit_8
def dkwX13_unit_6 : List UInt8 := [4, 54, 4, 167, 0, 124, 45, 18, 88, 182, 0, 82, 153, 0, 115, 5, 54, 4, 167, 0, 109, 45, 18, 90]
abbrev dktX13_unit_6 : List UInt8 := dkwX13_unit_6 ++ dktX13_unit_7
def dkwX13_unit_5 : List UInt8 := [45, 18, 80, 182, 0, 82, 153, 0, 145, 3, 54, 4, 167, 0, 139, 45, 18, 86, 182, 0, 82, 153, 0, 130]
abbrev dktX13_unit_5 : List UInt8 := dkwX13_unit_5 ++ dktX13_unit_6
def dkwX13_unit_4 : List UInt8 := [171, 0, 0, 0, 0, 0, 242, 0, 0, 0, 10, 190, 14, 58, 230, 0, 0, 0, 91, 202, 56, 131, 124, 0, 0, 0, 197, 0, 1, 131, 156, 0, 0, 0, 181, 0, 1, 176, 168, 0, 0, 0, 106, 0, 50, 160, 7, 0, 0, 0, 121, 0, 51, 59, 131, 0, 0, 0, 229, 0, 51, 175, 242, 0, 0, 0, 151, 0, 54, 11, 155, 0, 0, 0, 136, 6, 33, 78, 105, 0, 0, 0, 213, 6, 179, 22, 5, 0, 0, 0, 166]
abbrev dktX13_unit_4 : List UInt8 := dkwX13_unit_4 ++ dktX13_unit_5
def dkwX13_unit_3 : List UInt8 := [44, 78, 2, 54, 4, 45, 182, 0, 75]
abbrev dktX13_unit_3 : List UInt8 := dkwX13_unit_3 ++ dktX13_unit_4
def dkwX13_unit_2 : List UInt8 := [163, 0, 19, 187, 0, 63, 89, 42, 3, 17, 3, 231, 182, 0, 65, 183, 0, 69, 176, 42, 182, 0, 71, 77]
abbrev dktX13_unit_2 : List UInt8 := dkwX13_unit_2 ++ dktX13_unit_3
def dkwX13_unit_1 : List UInt8 := [182, 0, 57, 42, 89, 180, 0, 60, 4, 100, 181, 0, 60, 44, 176, 27, 16, 48, 161, 0, 25, 27, 16, 57]
abbrev dktX13_unit_1 : List UInt8 := dkwX13_unit_1 ++ dktX13_unit_2
def dkwX13_unit_0 : List UInt8 := [42, 182, 0, 15, 60, 27, 16, 40, 160, 0, 31, 42, 4, 182, 0, 53, 42, 182, 0, 9, 77, 42, 16, 41]
abbrev dktX13_unit_0 : List UInt8 := dkwX13_unit_0 ++ dktX13_unit_1
theorem dksX13_unit_0 : cX13_unit.data.toList.drop 0 = dktX13_unit_0 := by decide +kernel
theorem dksX13_unit_1 : cX13_unit.data.toList.drop 24 = dktX13_unit_1 := dk_seg dksX13_unit_0 24 rfl rfl
theorem dksX13_unit_2 : cX13_unit.data.toList.drop 48 = dktX13_unit_2 := dk_seg dksX13_unit_1 24 rfl rfl
theorem dksX13_unit_3 : cX13_unit.data.toList.drop 72 = dktX13_unit_3 := dk_seg dksX13_unit_2 24 rfl rfl
theorem dksX13_unit_4 : cX13_unit.data.toList.drop 81 = dktX13_unit_4 := dk_seg dksX13_unit_3 9 rfl rfl
theorem dksX13_unit_5 : cX13_unit.data.toList.drop 172 = dktX13_unit_5 := dk_seg dksX13_unit_4 91 rfl rfl
theorem dksX13_unit_6 : cX13_unit.data.toList.drop 196 = dktX13_unit_6 := dk_seg dksX13_unit_5 24 rfl rfl
theorem dksX13_unit_7 : cX13_unit.data.toList.drop 220 = dktX13_unit_7 := dk_seg dksX13_unit_6 24 rfl rfl
theorem dksX13_unit_8 : cX13_unit.data.toList.drop 244 = dktX13_unit_8 := dk_seg dksX13_unit_7 24 rfl rfl
theorem dksX13_unit_9 : cX13_unit.data.toList.drop 268 = dktX13_unit_9 := dk_seg dksX13_unit_8 24 rfl rfl
theorem dksX13_unit_10 : cX13_unit.data.toList.drop 291 = dktX13_unit_10 := dk_seg dksX13_unit_9 23 rfl rfl
theorem dksX13_unit_11 : cX13_unit.data.toList.drop 313 = dktX13_unit_11 := dk_seg dksX13_unit_10 22 rfl rfl
theorem dksX13_unit_12 : cX13_unit.data.toList.drop 325 = dktX13_unit_12 := dk_seg dksX13_unit_11 12 rfl rfl
theorem dksX13_unit_13 : cX13_unit.data.toList.drop 380 = dktX13_unit_13 := dk_seg dksX13_unit_12 55 rfl rfl
theorem dksX13_unit_14 : cX13_unit.data.toList.drop 404 = dktX13_unit_14 := dk_seg dksX13_unit_13 24 rfl rfl
theorem dksX13_unit_15 : cX13_unit.data.toList.drop 426 = dktX13_unit_15 := dk_seg dksX13_unit_14 22 rfl rfl
theorem dX13_unit_0 : decode cX13_unit 0 = .ok (.aload_n 0, 1) := dk_42 (dk_at dksX13_unit_0 0 rfl rfl)
theorem dX13_unit_1 : decode cX13_unit 1 = .ok (.invokevirtual 15, 3) := dk_182 0 15 (dk_at dksX13_unit_0 1 rfl rfl)
theorem dX13_unit_4 : decode cX13_unit 4 = .ok (.istore_n 1, 1) := dk_60 (dk_at dksX13_unit_0 4 rfl rfl)
theorem dX13_unit_5 : decode cX13_unit 5 = .ok (.iload_n 1, 1) := dk_27 (dk_at dksX13_unit_0 5 rfl rfl)
theorem dX13_unit_6 : decode cX13_unit 6 = .ok (.bipush 40, 2) := dk_16 40 (dk_at dksX13_unit_0 6 rfl rfl)
theorem dX13_unit_8 : decode cX13_unit 8 = .ok (.if_icmp .ne 31, 3) := dk_160 0 31 (dk_at dksX13_unit_0 8 rfl rfl)
theorem dX13_unit_11 : decode cX13_unit 11 = .ok (.aload_n 0, 1) := dk_42 (dk_at dksX13_unit_0 11 rfl rfl)
theorem dX13_unit_12 : decode cX13_unit 12 = .ok (.iconst 1, 1) := dk_4 (dk_at dksX13_unit_0 12 rfl rfl)
theorem dX13_unit_13 : decode cX13_unit 13 = .ok (.invokevirtual 53, 3) := dk_182 0 53 (dk_at dksX13_unit_0 13 rfl rfl)
theorem dX13_unit_16 : decode cX13_unit 16 = .ok (.aload_n 0, 1) := dk_42 (dk_at dksX13_unit_0 16 rfl rfl)
theorem dX13_unit_17 : decode cX13_unit 17 = .ok (.invokevirtual 9, 3) := dk_182 0 9 (dk_at dksX13_unit_0 17 rfl rfl)
theorem dX13_unit_20 : decode cX13_unit 20 = .ok (.astore_n 2, 1) := dk_77 (dk_at dksX13_unit_0 20 rfl rfl)
theorem dX13_unit_21 : decode cX13_unit 21 = .ok (.aload_n 0, 1) := dk_42 (dk_at dksX13_unit_0 21 rfl rfl)
theorem dX13_unit_22 : decode cX13_unit 22 = .ok (.bipush 41, 2) := dk_16 41 (dk_at dksX13_unit_0 22 rfl rfl)
theorem dX13_unit_24 : decode cX13_unit 24 = .ok (.invokevirtual 57, 3) := dk_182 0 57 (dk_at dksX13_unit_1 0 rfl rfl)
theorem dX13_unit_27 : decode cX13_unit 27 = .ok (.aload_n 0, 1) := dk_42 (dk_at dksX13_unit_1 3 rfl rfl)
theorem dX13_unit_28 : decode cX13_unit 28 = .ok (.dup, 1) := dk_89 (dk_at dksX13_unit_1 4 rfl rfl)
theorem dX13_unit_29 : decode cX13_unit 29 = .ok (.getfield 60, 3) := dk_180 0 60 (dk_at dksX13_unit_1 5 rfl rfl)
theorem dX13_unit_32 : decode cX13_unit 32 = .ok (.iconst 1, 1) := dk_4 (dk_at dksX13_unit_1 8 rfl rfl)
theorem dX13_unit_33 : decode cX13_unit 33 = .ok (.isub, 1) := dk_100 (dk_at dksX13_unit_1 9 rfl rfl)
theorem dX13_unit_34 : decode cX13_unit 34 = .ok (.putfield 60, 3) := dk_181 0 60 (dk_at dksX13_unit_1 10 rfl rfl)
theorem dX13_unit_37 : decode cX13_unit 37 = .ok (.aload_n 2, 1) := dk_44 (dk_at dksX13_unit_1 13 rfl rfl)
theorem dX13_unit_38 : decode cX13_unit 38 = .ok (.areturn, 1) := dk_176 (dk_at dksX13_unit_1 14 rfl rfl)
theorem dX13_unit_39 : decode cX13_unit 39 = .ok (.iload_n 1, 1) := dk_27 (dk_at dksX13_unit_1 15 rfl rfl)
theorem dX13_unit_40 : decode cX13_unit 40 = .ok (.bipush 48, 2) := dk_16 48 (dk_at dksX13_unit_1 16 rfl rfl)
theorem dX13_unit_42 : decode cX13_unit 42 = .ok (.if_icmp .lt 25, 3) := dk_161 0 25 (dk_at dksX13_unit_1 18 rfl rfl)
theorem dX13_unit_45 : decode cX13_unit 45 = .ok (.iload_n 1, 1) := dk_27 (dk_at dksX13_unit_1 21 rfl rfl)
theorem dX13_unit_46 : decode cX13_unit 46 = .ok (.bipush 57, 2) := dk_16 57 (dk_at dksX13_unit_1 22 rfl rfl)
theorem dX13_unit_48 : decode cX13_unit 48 = .ok (.if_icmp .gt 19, 3) := dk_163 0 19 (dk_at dksX13_unit_2 0 rfl rfl)
theorem dX13_unit_51 : decode cX13_unit 51 = .ok (.new 63, 3) := dk_187 0 63 (dk_at dksX13_unit_2 3 rfl rfl)
theorem dX13_unit_54 : decode cX13_unit 54 = .ok (.dup, 1) := dk_89 (dk_at dksX13_unit_2 6 rfl rfl)
theorem dX13_unit_55 : decode cX13_unit 55 = .ok (.aload_n 0, 1) := dk_42 (dk_at dksX13_unit_2 7 rfl rfl)
theorem dX13_unit_56 : decode cX13_unit 56 = .ok (.iconst 0, 1) := dk_3 (dk_at dksX13_unit_2 8 rfl rfl)
theorem dX13_unit_57 : decode cX13_unit 57 = .ok (.sipush 999, 3) := dk_17 3 231 (dk_at dksX13_unit_2 9 rfl rfl)
theorem dX13_unit_60 : decode cX13_unit 60 = .ok (.invokevirtual 65, 3) := dk_182 0 65 (dk_at dksX13_unit_2 12 rfl rfl)
theorem dX13_unit_63 : decode cX13_unit 63 = .ok (.invokespecial 69, 3) := dk_183 0 69 (dk_at dksX13_unit_2 15 rfl rfl)
theorem dX13_unit_66 : decode cX13_unit 66 = .ok (.areturn, 1) := dk_176 (dk_at dksX13_unit_2 18 rfl rfl)
theorem dX13_unit_67 : decode cX13_unit 67 = .ok (.aload_n 0, 1) := dk_42 (dk_at dksX13_unit_2 19 rfl rfl)
theorem dX13_unit_68 : decode cX13_unit 68 = .ok (.invokevirtual 71, 3) := dk_182 0 71 (dk_at dksX13_unit_2 20 rfl rfl)
theorem dX13_unit_71 : decode cX13_unit 71 = .ok (.astore_n 2, 1) := dk_77 (dk_at dksX13_unit_2 23 rfl rfl)
theorem dX13_unit_72 : decode cX13_unit 72 = .ok (.aload_n 2, 1) := dk_44 (dk_at dksX13_unit_3 0 rfl rfl)
theorem dX13_unit_73 : decode cX13_unit 73 = .ok (.astore_n 3, 1) := dk_78 (dk_at dksX13_unit_3 1 rfl rfl)
theorem dX13_unit_74 : decode cX13_unit 74 = .ok (.iconst (-1), 1) := dk_2 (dk_at dksX13_unit_3 2 rfl rfl)
theorem dX13_unit_75 : decode cX13_unit 75 = .ok (.istore 4, 2) := dk_54 4 (dk_at dksX13_unit_3 3 rfl rfl)
theorem dX13_unit_77 : decode cX13_unit 77 = .ok (.aload_n 3, 1) := dk_45 (dk_at dksX13_unit_3 5 rfl rfl)
theorem dX13_unit_78 : decode cX13_unit 78 = .ok (.invokevirtual 75, 3) := dk_182 0 75 (dk_at dksX13_unit_3 6 rfl rfl)
theorem dX13_unit_81 : decode cX13_unit 81 = .ok (.lookupswitch 242 #[(-1106363674, 91), (-902265988, 197), (99228, 181), (110760, 106), (3317767, 121), (3357571, 229), (3387378, 151), (3541915, 136), (102846057, 213), (112399877, 166)], 91) := by decide +kernel
theorem dX13_unit_172 : decode cX13_unit 172 = .ok (.aload_n 3, 1) := dk_45 (dk_at dksX13_unit_5 0 rfl rfl)
theorem dX13_unit_173 : decode cX13_unit 173 = .ok (.ldc 80, 2) := dk_18 80 (dk_at dksX13_unit_5 1 rfl rfl)
theorem dX13_unit_175 : decode cX13_unit 175 = .ok (.invokevirtual 82, 3) := dk_182 0 82 (dk_at dksX13_unit_5 3 rfl rfl)
theorem dX13_unit_178 : decode cX13_unit 178 = .ok (.ifCond .eq 145, 3) := dk_153 0 145 (dk_at dksX13_unit_5 6 rfl rfl)
theorem dX13_unit_181 : decode cX13_unit 181 = .ok (.iconst 0, 1) := dk_3 (dk_at dksX13_unit_5 9 rfl rfl)
theorem dX13_unit_182 : decode cX13_unit 182 = .ok (.istore 4, 2) := dk_54 4 (dk_at dksX13_unit_5 10 rfl rfl)
theorem dX13_unit_184 : decode cX13_unit 184 = .ok (.goto 139, 3) := dk_167 0 139 (dk_at dksX13_unit_5 12 rfl rfl)
theorem dX13_unit_187 : decode cX13_unit 187 = .ok (.aload_n 3, 1) := dk_45 (dk_at dksX13_unit_5 15 rfl rfl)
theorem dX13_unit_188 : decode cX13_unit 188 = .ok (.ldc 86, 2) := dk_18 86 (dk_at dksX13_unit_5 16 rfl rfl)
theorem dX13_unit_190 : decode cX13_unit 190 = .ok (.invokevirtual 82, 3) := dk_182 0 82 (dk_at dksX13_unit_5 18 rfl rfl)
theorem dX13_unit_193 : decode cX13_unit 193 = .ok (.ifCond .eq 130, 3) := dk_153 0 130 (dk_at dksX13_unit_5 21 rfl rfl)
theorem dX13_unit_196 : decode cX13_unit 196 = .ok (.iconst 1, 1) := dk_4 (dk_at dksX13_unit_6 0 rfl rfl)
theorem dX13_unit_197 : decode cX13_unit 197 = .ok (.istore 4, 2) := dk_54 4 (dk_at dksX13_unit_6 1 rfl rfl)
theorem dX13_unit_199 : decode cX13_unit 199 = .ok (.goto 124, 3) := dk_167 0 124 (dk_at dksX13_unit_6 3 rfl rfl)
theorem dX13_unit_202 : decode cX13_unit 202 = .ok (.aload_n 3, 1) := dk_45 (dk_at dksX13_unit_6 6 rfl rfl)
theorem dX13_unit_203 : decode cX13_unit 203 = .ok (.ldc 88, 2) := dk_18 88 (dk_at dksX13_unit_6 7 rfl rfl)
theorem dX13_unit_205 : decode cX13_unit 205 = .ok (.invokevirtual 82, 3) := dk_182 0 82 (dk_at dksX13_unit_6 9 rfl rfl)
theorem dX13_unit_208 : decode cX13_unit 208 = .ok (.ifCond .eq 115, 3) := dk_153 0 115 (dk_at dksX13_unit_6 12 rfl rfl)
theorem dX13_unit_211 : decode cX13_unit 211 = .ok (.iconst 2, 1) := dk_5 (dk_at dksX13_unit_6 15 rfl rfl)
theorem dX13_unit_212 : decode cX13_unit 212 = .ok (.istore 4, 2) := dk_54 4 (dk_at dksX13_unit_6 16 rfl rfl)
theorem dX13_unit_214 : decode cX13_unit 214 = .ok (.goto 109, 3) := dk_167 0 109 (dk_at dksX13_unit_6 18 rfl rfl)
theorem dX13_unit_217 : decode cX13_unit 217 = .ok (.aload_n 3, 1) := dk_45 (dk_at dksX13_unit_6 21 rfl rfl)
theorem dX13_unit_218 : decode cX13_unit 218 = .ok (.ldc 90, 2) := dk_18 90 (dk_at dksX13_unit_6 22 rfl rfl)
theorem dX13_unit_220 : decode cX13_unit 220 = .ok (.invokevirtual 82, 3) := dk_182 0 82 (dk_at dksX13_unit_7 0 rfl rfl)
theorem dX13_unit_223 : decode cX13_unit 223 = .ok (.ifCond .eq 100, 3) := dk_153 0 100 (dk_at dksX13_unit_7 3 rfl rfl)
theorem dX13_unit_226 : decode cX13_unit 226 = .ok (.iconst 3, 1) := dk_6 (dk_at dksX13_unit_7 6 rfl rfl)
theorem dX13_unit_227 : decode cX13_unit 227 = .ok (.istore 4, 2) := dk_54 4 (dk_at dksX13_unit_7 7 rfl rfl)
theorem dX13_unit_229 : decode cX13_unit 229 = .ok (.goto 94, 3) := dk_167 0 94 (dk_at dksX13_unit_7 9 rfl rfl)
theorem dX13_unit_232 : decode cX13_unit 232 = .ok (.aload_n 3, 1) := dk_45 (dk_at dksX13_unit_7 12 rfl rfl)
theorem dX13_unit_233 : decode cX13_unit 233 = .ok (.ldc 92, 2) := dk_18 92 (dk_at dksX13_unit_7 13 rfl rfl)
theorem dX13_unit_235 : decode cX13_unit 235 = .ok (.invokevirtual 82, 3) := dk_182 0 82 (dk_at dksX13_unit_7 15 rfl rfl)
theorem dX13_unit_238 : decode cX13_unit 238 = .ok (.ifCond .eq 85, 3) := dk_153 0 85 (dk_at dksX13_unit_7 18 rfl rfl)
theorem dX13_unit_241 : decode cX13_unit 241 = .ok (.iconst 4, 1) := dk_7 (dk_at dksX13_unit_7 21 rfl rfl)
theorem dX13_unit_242 : decode cX13_unit 242 = .ok (.istore 4, 2) := dk_54 4 (dk_at dksX13_unit_7 22 rfl rfl)
theorem dX13_unit_244 : decode cX13_unit 244 = .ok (.goto 79, 3) := dk_167 0 79 (dk_at dksX13_unit_8 0 rfl rfl)
theorem dX13_unit_247 : decode cX13_unit 247 = .ok (.aload_n 3, 1) := dk_45 (dk_at dksX13_unit_8 3 rfl rfl)
theorem dX13_unit_248 : decode cX13_unit 248 = .ok (.ldc 94, 2) := dk_18 94 (dk_at dksX13_unit_8 4 rfl rfl)
theorem dX13_unit_250 : decode cX13_unit 250 = .ok (.invokevirtual 82, 3) := dk_182 0 82 (dk_at dksX13_unit_8 6 rfl rfl)
theorem dX13_unit_253 : decode cX13_unit 253 = .ok (.ifCond .eq 70, 3) := dk_153 0 70 (dk_at dksX13_unit_8 9 rfl rfl)
theorem dX13_unit_256 : decode cX13_unit 256 = .ok (.iconst 5, 1) := dk_8 (dk_at dksX13_unit_8 12 rfl rfl)
theorem dX13_unit_257 : decode cX13_unit 257 = .ok (.istore 4, 2) := dk_54 4 (dk_at dksX13_unit_8 13 rfl rfl)
theorem dX13_unit_259 : decode cX13_unit 259 = .ok (.goto 64, 3) := dk_167 0 64 (dk_at dksX13_unit_8 15 rfl rfl)
theorem dX13_unit_262 : decode cX13_unit 262 = .ok (.aload_n 3, 1) := dk_45 (dk_at dksX13_unit_8 18 rfl rfl)
theorem dX13_unit_263 : decode cX13_unit 263 = .ok (.ldc 96, 2) := dk_18 96 (dk_at dksX13_unit_8 19 rfl rfl)
theorem dX13_unit_265 : decode cX13_unit 265 = .ok (.invokevirtual 82, 3) := dk_182 0 82 (dk_at dksX13_unit_8 21 rfl rfl)
theorem dX13_unit_268 : decode cX13_unit 268 = .ok (.ifCond .eq 55, 3) := dk_153 0 55 (dk_at dksX13_unit_9 0 rfl rfl)
theorem dX13_unit_271 : decode cX13_unit 271 = .ok (.bipush 6, 2) := dk_16 6 (dk_at dksX13_unit_9 3 rfl rfl)
theorem dX13_unit_273 : decode cX13_unit 273 = .ok (.istore 4, 2) := dk_54 4 (dk_at dksX13_unit_9 5 rfl rfl)
theorem dX13_unit_275 : decode cX13_unit 275 = .ok (.goto 48, 3) := dk_167 0 48 (dk_at dksX13_unit_9 7 rfl rfl)
theorem dX13_unit_278 : decode cX13_unit 278 = .ok (.aload_n 3, 1) := dk_45 (dk_at dksX13_unit_9 10 rfl rfl)
theorem dX13_unit_279 : decode cX13_unit 279 = .ok (.ldc 98, 2) := dk_18 98 (dk_at dksX13_unit_9 11 rfl rfl)
theorem dX13_unit_281 : decode cX13_unit 281 = .ok (.invokevirtual 82, 3) := dk_182 0 82 (dk_at dksX13_unit_9 13 rfl rfl)
theorem dX13_unit_284 : decode cX13_unit 284 = .ok (.ifCond .eq 39, 3) := dk_153 0 39 (dk_at dksX13_unit_9 16 rfl rfl)
theorem dX13_unit_287 : decode cX13_unit 287 = .ok (.bipush 7, 2) := dk_16 7 (dk_at dksX13_unit_9 19 rfl rfl)
theorem dX13_unit_289 : decode cX13_unit 289 = .ok (.istore 4, 2) := dk_54 4 (dk_at dksX13_unit_9 21 rfl rfl)
theorem dX13_unit_291 : decode cX13_unit 291 = .ok (.goto 32, 3) := dk_167 0 32 (dk_at dksX13_unit_10 0 rfl rfl)
theorem dX13_unit_294 : decode cX13_unit 294 = .ok (.aload_n 3, 1) := dk_45 (dk_at dksX13_unit_10 3 rfl rfl)
theorem dX13_unit_295 : decode cX13_unit 295 = .ok (.ldc 100, 2) := dk_18 100 (dk_at dksX13_unit_10 4 rfl rfl)
theorem dX13_unit_297 : decode cX13_unit 297 = .ok (.invokevirtual 82, 3) := dk_182 0 82 (dk_at dksX13_unit_10 6 rfl rfl)
theorem dX13_unit_300 : decode cX13_unit 300 = .ok (.ifCond .eq 23, 3) := dk_153 0 23 (dk_at dksX13_unit_10 9 rfl rfl)
theorem dX13_unit_303 : decode cX13_unit 303 = .ok (.bipush 8, 2) := dk_16 8 (dk_at dksX13_unit_10 12 rfl rfl)
theorem dX13_unit_305 : decode cX13_unit 305 = .ok (.istore 4, 2) := dk_54 4 (dk_at dksX13_unit_10 14 rfl rfl)
theorem dX13_unit_307 : decode cX13_unit 307 = .ok (.goto 16, 3) := dk_167 0 16 (dk_at dksX13_unit_10 16 rfl rfl)
theorem dX13_unit_310 : decode cX13_unit 310 = .ok (.aload_n 3, 1) := dk_45 (dk_at dksX13_unit_10 19 rfl rfl)
theorem dX13_unit_311 : decode cX13_unit 311 = .ok (.ldc 102, 2) := dk_18 102 (dk_at dksX13_unit_10 20 rfl rfl)
theorem dX13_unit_313 : decode cX13_unit 313 = .ok (.invokevirtual 82, 3) := dk_182 0 82 (dk_at dksX13_unit_11 0 rfl rfl)
theorem dX13_unit_316 : decode cX13_unit 316 = .ok (.ifCond .eq 7, 3) := dk_153 0 7 (dk_at dksX13_unit_11 3 rfl rfl)
theorem dX13_unit_319 : decode cX13_unit 319 = .ok (.bipush 9, 2) := dk_16 9 (dk_at dksX13_unit_11 6 rfl rfl)
theorem dX13_unit_321 : decode cX13_unit 321 = .ok (.istore 4, 2) := dk_54 4 (dk_at dksX13_unit_11 8 rfl rfl)
theorem dX13_unit_323 : decode cX13_unit 323 = .ok (.iload 4, 2) := dk_21 4 (dk_at dksX13_unit_11 10 rfl rfl)
theorem dX13_unit_325 : decode cX13_unit 325 = .ok (.tableswitch 119 0 9 #[55, 62, 69, 76, 83, 90, 97, 105, 113, 113], 55) := by decide +kernel
theorem dX13_unit_380 : decode cX13_unit 380 = .ok (.aload_n 0, 1) := dk_42 (dk_at dksX13_unit_13 0 rfl rfl)
theorem dX13_unit_381 : decode cX13_unit 381 = .ok (.aload_n 2, 1) := dk_44 (dk_at dksX13_unit_13 1 rfl rfl)
theorem dX13_unit_382 : decode cX13_unit 382 = .ok (.iconst 0, 1) := dk_3 (dk_at dksX13_unit_13 2 rfl rfl)
theorem dX13_unit_383 : decode cX13_unit 383 = .ok (.invokevirtual 104, 3) := dk_182 0 104 (dk_at dksX13_unit_13 3 rfl rfl)
theorem dX13_unit_386 : decode cX13_unit 386 = .ok (.areturn, 1) := dk_176 (dk_at dksX13_unit_13 6 rfl rfl)
theorem dX13_unit_387 : decode cX13_unit 387 = .ok (.aload_n 0, 1) := dk_42 (dk_at dksX13_unit_13 7 rfl rfl)
theorem dX13_unit_388 : decode cX13_unit 388 = .ok (.aload_n 2, 1) := dk_44 (dk_at dksX13_unit_13 8 rfl rfl)
theorem dX13_unit_389 : decode cX13_unit 389 = .ok (.iconst 1, 1) := dk_4 (dk_at dksX13_unit_13 9 rfl rfl)
theorem dX13_unit_390 : decode cX13_unit 390 = .ok (.invokevirtual 104, 3) := dk_182 0 104 (dk_at dksX13_unit_13 10 rfl rfl)
theorem dX13_unit_393 : decode cX13_unit 393 = .ok (.areturn, 1) := dk_176 (dk_at dksX13_unit_13 13 rfl rfl)
theorem dX13_unit_394 : decode cX13_unit 394 = .ok (.aload_n 0, 1) := dk_42 (dk_at dksX13_unit_13 14 rfl rfl)
theorem dX13_unit_395 : decode cX13_unit 395 = .ok (.aload_n 2, 1) := dk_44 (dk_at dksX13_unit_13 15 rfl rfl)
theorem dX13_unit_396 : decode cX13_unit 396 = .ok (.iconst 2, 1) := dk_5 (dk_at dksX13_unit_13 16 rfl rfl)
theorem dX13_unit_397 : decode cX13_unit 397 = .ok (.invokevirtual 104, 3) := dk_182 0 104 (dk_at dksX13_unit_13 17 rfl rfl)
theorem dX13_unit_400 : decode cX13_unit 400 = .ok (.areturn, 1) := dk_176 (dk_at dksX13_unit_13 20 rfl rfl)
theorem dX13_unit_401 : decode cX13_unit 401 = .ok (.aload_n 0, 1) := dk_42 (dk_at dksX13_unit_13 21 rfl rfl)
theorem dX13_unit_402 : decode cX13_unit 402 = .ok (.aload_n 2, 1) := dk_44 (dk_at dksX13_unit_13 22 rfl rfl)
theorem dX13_unit_403 : decode cX13_unit 403 = .ok (.iconst 3, 1) := dk_6 (dk_at dksX13_unit_13 23 rfl rfl)
theorem dX13_unit_404 : decode cX13_unit 404 = .ok (.invokevirtual 104, 3) := dk_182 0 104 (dk_at dksX13_unit_14 0 rfl rfl)
theorem dX13_unit_407 : decode cX13_unit 407 = .ok (.areturn, 1) := dk_176 (dk_at dksX13_unit_14 3 rfl rfl)
theorem dX13_unit_408 : decode cX13_unit 408 = .ok (.aload_n 0, 1) := dk_42 (dk_at dksX13_unit_14 4 rfl rfl)
theorem dX13_unit_409 : decode cX13_unit 409 = .ok (.aload_n 2, 1) := dk_44 (dk_at dksX13_unit_14 5 rfl rfl)
theorem dX13_unit_410 : decode cX13_unit 410 = .ok (.iconst 4, 1) := dk_7 (dk_at dksX13_unit_14 6 rfl rfl)
theorem dX13_unit_411 : decode cX13_unit 411 = .ok (.invokevirtual 104, 3) := dk_182 0 104 (dk_at dksX13_unit_14 7 rfl rfl)
theorem dX13_unit_414 : decode cX13_unit 414 = .ok (.areturn, 1) := dk_176 (dk_at dksX13_unit_14 10 rfl rfl)
theorem dX13_unit_415 : decode cX13_unit 415 = .ok (.aload_n 0, 1) := dk_42 (dk_at dksX13_unit_14 11 rfl rfl)
theorem dX13_unit_416 : decode cX13_unit 416 = .ok (.aload_n 2, 1) := dk_44 (dk_at dksX13_unit_14 12 rfl rfl)
theorem dX13_unit_417 : decode cX13_unit 417 = .ok (.iconst 5, 1) := dk_8 (dk_at dksX13_unit_14 13 rfl rfl)
theorem dX13_unit_418 : decode cX13_unit 418 = .ok (.invokevirtual 104, 3) := dk_182 0 104 (dk_at dksX13_unit_14 14 rfl rfl)
theorem dX13_unit_421 : decode cX13_unit 421 = .ok (.areturn, 1) := dk_176 (dk_at dksX13_unit_14 17 rfl rfl)
theorem dX13_unit_422 : decode cX13_unit 422 = .ok (.aload_n 0, 1) := dk_42 (dk_at dksX13_unit_14 18 rfl rfl)
theorem dX13_unit_423 : decode cX13_unit 423 = .ok (.aload_n 2, 1) := dk_44 (dk_at dksX13_unit_14 19 rfl rfl)
theorem dX13_unit_424 : decode cX13_unit 424 = .ok (.bipush 6, 2) := dk_16 6 (dk_at dksX13_unit_14 20 rfl rfl)
theorem dX13_unit_426 : decode cX13_unit 426 = .ok (.invokevirtual 104, 3) := dk_182 0 104 (dk_at dksX13_unit_15 0 rfl rfl)
theorem dX13_unit_429 : decode cX13_unit 429 = .ok (.areturn, 1) := dk_176 (dk_at dksX13_unit_15 3 rfl rfl)
theorem dX13_unit_430 : decode cX13_unit 430 = .ok (.aload_n 0, 1) := dk_42 (dk_at dksX13_unit_15 4 rfl rfl)
theorem dX13_unit_431 : decode cX13_unit 431 = .ok (.aload_n 2, 1) := dk_44 (dk_at dksX13_unit_15 5 rfl rfl)
theorem dX13_unit_432 : decode cX13_unit 432 = .ok (.bipush 7, 2) := dk_16 7 (dk_at dksX13_unit_15 6 rfl rfl)
theorem dX13_unit_434 : decode cX13_unit 434 = .ok (.invokevirtual 104, 3) := dk_182 0 104 (dk_at dksX13_unit_15 8 rfl rfl)
theorem dX13_unit_437 : decode cX13_unit 437 = .ok (.areturn, 1) := dk_176 (dk_at dksX13_unit_15 11 rfl rfl)
theorem dX13_unit_438 : decode cX13_unit 438 = .ok (.aload_n 0, 1) := dk_42 (dk_at dksX13_unit_15 12 rfl rfl)
theorem dX13_unit_439 : decode cX13_unit 439 = .ok (.aload_n 2, 1) := dk_44 (dk_at dksX13_unit_15 13 rfl rfl)
theorem dX13_unit_440 : decode cX13_unit 440 = .ok (.invokevirtual 108, 3) := dk_182 0 108 (dk_at dksX13_unit_15 14 rfl rfl)
theorem dX13_unit_443 : decode cX13_unit 443 = .ok (.areturn, 1) := dk_176 (dk_at dksX13_unit_15 17 rfl rfl)
theorem dX13_unit_444 : decode cX13_unit 444 = .ok (.aload_n 0, 1) := dk_42 (dk_at dksX13_unit_15 18 rfl rfl)
theorem dX13_unit_445 : decode cX13_unit 445 = .ok (.invokevirtual 26, 3) := dk_182 0 26 (dk_at dksX13_unit_15 19 rfl rfl)
theorem dX13_unit_448 : decode cX13_unit 448 = .ok (.athrow, 1) := dk_191 (dk_at dksX13_unit_15 22 rfl rfl)
abbrev cX13_fact : ByteArray := prog_10_method_6_code
def yX13_fact : MethodName := ⟨RX13, "fact", "(Ljava/lang/String;I)LVowelChoir$Term;"⟩
def dkwX13_fact_0 : List UInt8 := [42, 89, 180, 0, 19, 43, 182, 0, 112, 96, 181, 0, 19, 187, 0, 114, 89, 28, 183, 0, 116, 176]
abbrev dktX13_fact_0 : List UInt8 := dkwX13_fact_0 ++ []
theorem dksX13_fact_0 : cX13_fact.data.toList.drop 0 = dktX13_fact_0 := by decide +kernel
theorem dX13_fact_0 : decode cX13_fact 0 = .ok (.aload_n 0, 1) := dk_42 (dk_at dksX13_fact_0 0 rfl rfl)
theorem dX13_fact_1 : decode cX13_fact 1 = .ok (.dup, 1) := dk_89 (dk_at dksX13_fact_0 1 rfl rfl)
theorem dX13_fact_2 : decode cX13_fact 2 = .ok (.getfield 19, 3) := dk_180 0 19 (dk_at dksX13_fact_0 2 rfl rfl)
theorem dX13_fact_5 : decode cX13_fact 5 = .ok (.aload_n 1, 1) := dk_43 (dk_at dksX13_fact_0 5 rfl rfl)
theorem dX13_fact_6 : decode cX13_fact 6 = .ok (.invokevirtual 112, 3) := dk_182 0 112 (dk_at dksX13_fact_0 6 rfl rfl)
theorem dX13_fact_9 : decode cX13_fact 9 = .ok (.iadd, 1) := dk_96 (dk_at dksX13_fact_0 9 rfl rfl)
theorem dX13_fact_10 : decode cX13_fact 10 = .ok (.putfield 19, 3) := dk_181 0 19 (dk_at dksX13_fact_0 10 rfl rfl)
theorem dX13_fact_13 : decode cX13_fact 13 = .ok (.new 114, 3) := dk_187 0 114 (dk_at dksX13_fact_0 13 rfl rfl)
theorem dX13_fact_16 : decode cX13_fact 16 = .ok (.dup, 1) := dk_89 (dk_at dksX13_fact_0 16 rfl rfl)
theorem dX13_fact_17 : decode cX13_fact 17 = .ok (.iload_n 2, 1) := dk_28 (dk_at dksX13_fact_0 17 rfl rfl)
theorem dX13_fact_18 : decode cX13_fact 18 = .ok (.invokespecial 116, 3) := dk_183 0 116 (dk_at dksX13_fact_0 18 rfl rfl)
theorem dX13_fact_21 : decode cX13_fact 21 = .ok (.areturn, 1) := dk_176 (dk_at dksX13_fact_0 21 rfl rfl)
abbrev cX13_two : ByteArray := prog_10_method_7_code
def yX13_two : MethodName := ⟨RX13, "two", "(Ljava/lang/String;)LVowelChoir$Term;"⟩
def dkwX13_two_3 : List UInt8 := [89, 44, 45, 183, 0, 122, 176]
abbrev dktX13_two_3 : List UInt8 := dkwX13_two_3 ++ []
def dkwX13_two_2 : List UInt8 := [43, 18, 100, 182, 0, 82, 153, 0, 15, 187, 0, 117, 89, 44, 45, 183, 0, 119, 167, 0, 12, 187, 0, 120]
abbrev dktX13_two_2 : List UInt8 := dkwX13_two_2 ++ dktX13_two_3
def dkwX13_two_1 : List UInt8 := [182, 0, 57, 42, 182, 0, 9, 78, 42, 16, 93, 182, 0, 57, 42, 89, 180, 0, 60, 4, 100, 181, 0, 60]
abbrev dktX13_two_1 : List UInt8 := dkwX13_two_1 ++ dktX13_two_2
def dkwX13_two_0 : List UInt8 := [42, 43, 182, 0, 112, 182, 0, 53, 42, 16, 91, 182, 0, 57, 42, 182, 0, 9, 77, 42, 16, 44]
abbrev dktX13_two_0 : List UInt8 := dkwX13_two_0 ++ dktX13_two_1
theorem dksX13_two_0 : cX13_two.data.toList.drop 0 = dktX13_two_0 := by decide +kernel
theorem dksX13_two_1 : cX13_two.data.toList.drop 22 = dktX13_two_1 := dk_seg dksX13_two_0 22 rfl rfl
theorem dksX13_two_2 : cX13_two.data.toList.drop 46 = dktX13_two_2 := dk_seg dksX13_two_1 24 rfl rfl
theorem dksX13_two_3 : cX13_two.data.toList.drop 70 = dktX13_two_3 := dk_seg dksX13_two_2 24 rfl rfl
theorem dX13_two_0 : decode cX13_two 0 = .ok (.aload_n 0, 1) := dk_42 (dk_at dksX13_two_0 0 rfl rfl)
theorem dX13_two_1 : decode cX13_two 1 = .ok (.aload_n 1, 1) := dk_43 (dk_at dksX13_two_0 1 rfl rfl)
theorem dX13_two_2 : decode cX13_two 2 = .ok (.invokevirtual 112, 3) := dk_182 0 112 (dk_at dksX13_two_0 2 rfl rfl)
theorem dX13_two_5 : decode cX13_two 5 = .ok (.invokevirtual 53, 3) := dk_182 0 53 (dk_at dksX13_two_0 5 rfl rfl)
theorem dX13_two_8 : decode cX13_two 8 = .ok (.aload_n 0, 1) := dk_42 (dk_at dksX13_two_0 8 rfl rfl)
theorem dX13_two_9 : decode cX13_two 9 = .ok (.bipush 91, 2) := dk_16 91 (dk_at dksX13_two_0 9 rfl rfl)
theorem dX13_two_11 : decode cX13_two 11 = .ok (.invokevirtual 57, 3) := dk_182 0 57 (dk_at dksX13_two_0 11 rfl rfl)
theorem dX13_two_14 : decode cX13_two 14 = .ok (.aload_n 0, 1) := dk_42 (dk_at dksX13_two_0 14 rfl rfl)
theorem dX13_two_15 : decode cX13_two 15 = .ok (.invokevirtual 9, 3) := dk_182 0 9 (dk_at dksX13_two_0 15 rfl rfl)
theorem dX13_two_18 : decode cX13_two 18 = .ok (.astore_n 2, 1) := dk_77 (dk_at dksX13_two_0 18 rfl rfl)
theorem dX13_two_19 : decode cX13_two 19 = .ok (.aload_n 0, 1) := dk_42 (dk_at dksX13_two_0 19 rfl rfl)
theorem dX13_two_20 : decode cX13_two 20 = .ok (.bipush 44, 2) := dk_16 44 (dk_at dksX13_two_0 20 rfl rfl)
theorem dX13_two_22 : decode cX13_two 22 = .ok (.invokevirtual 57, 3) := dk_182 0 57 (dk_at dksX13_two_1 0 rfl rfl)
theorem dX13_two_25 : decode cX13_two 25 = .ok (.aload_n 0, 1) := dk_42 (dk_at dksX13_two_1 3 rfl rfl)
theorem dX13_two_26 : decode cX13_two 26 = .ok (.invokevirtual 9, 3) := dk_182 0 9 (dk_at dksX13_two_1 4 rfl rfl)
theorem dX13_two_29 : decode cX13_two 29 = .ok (.astore_n 3, 1) := dk_78 (dk_at dksX13_two_1 7 rfl rfl)
theorem dX13_two_30 : decode cX13_two 30 = .ok (.aload_n 0, 1) := dk_42 (dk_at dksX13_two_1 8 rfl rfl)
theorem dX13_two_31 : decode cX13_two 31 = .ok (.bipush 93, 2) := dk_16 93 (dk_at dksX13_two_1 9 rfl rfl)
theorem dX13_two_33 : decode cX13_two 33 = .ok (.invokevirtual 57, 3) := dk_182 0 57 (dk_at dksX13_two_1 11 rfl rfl)
theorem dX13_two_36 : decode cX13_two 36 = .ok (.aload_n 0, 1) := dk_42 (dk_at dksX13_two_1 14 rfl rfl)
theorem dX13_two_37 : decode cX13_two 37 = .ok (.dup, 1) := dk_89 (dk_at dksX13_two_1 15 rfl rfl)
theorem dX13_two_38 : decode cX13_two 38 = .ok (.getfield 60, 3) := dk_180 0 60 (dk_at dksX13_two_1 16 rfl rfl)
theorem dX13_two_41 : decode cX13_two 41 = .ok (.iconst 1, 1) := dk_4 (dk_at dksX13_two_1 19 rfl rfl)
theorem dX13_two_42 : decode cX13_two 42 = .ok (.isub, 1) := dk_100 (dk_at dksX13_two_1 20 rfl rfl)
theorem dX13_two_43 : decode cX13_two 43 = .ok (.putfield 60, 3) := dk_181 0 60 (dk_at dksX13_two_1 21 rfl rfl)
theorem dX13_two_46 : decode cX13_two 46 = .ok (.aload_n 1, 1) := dk_43 (dk_at dksX13_two_2 0 rfl rfl)
theorem dX13_two_47 : decode cX13_two 47 = .ok (.ldc 100, 2) := dk_18 100 (dk_at dksX13_two_2 1 rfl rfl)
theorem dX13_two_49 : decode cX13_two 49 = .ok (.invokevirtual 82, 3) := dk_182 0 82 (dk_at dksX13_two_2 3 rfl rfl)
theorem dX13_two_52 : decode cX13_two 52 = .ok (.ifCond .eq 15, 3) := dk_153 0 15 (dk_at dksX13_two_2 6 rfl rfl)
theorem dX13_two_55 : decode cX13_two 55 = .ok (.new 117, 3) := dk_187 0 117 (dk_at dksX13_two_2 9 rfl rfl)
theorem dX13_two_58 : decode cX13_two 58 = .ok (.dup, 1) := dk_89 (dk_at dksX13_two_2 12 rfl rfl)
theorem dX13_two_59 : decode cX13_two 59 = .ok (.aload_n 2, 1) := dk_44 (dk_at dksX13_two_2 13 rfl rfl)
theorem dX13_two_60 : decode cX13_two 60 = .ok (.aload_n 3, 1) := dk_45 (dk_at dksX13_two_2 14 rfl rfl)
theorem dX13_two_61 : decode cX13_two 61 = .ok (.invokespecial 119, 3) := dk_183 0 119 (dk_at dksX13_two_2 15 rfl rfl)
theorem dX13_two_64 : decode cX13_two 64 = .ok (.goto 12, 3) := dk_167 0 12 (dk_at dksX13_two_2 18 rfl rfl)
theorem dX13_two_67 : decode cX13_two 67 = .ok (.new 120, 3) := dk_187 0 120 (dk_at dksX13_two_2 21 rfl rfl)
theorem dX13_two_70 : decode cX13_two 70 = .ok (.dup, 1) := dk_89 (dk_at dksX13_two_3 0 rfl rfl)
theorem dX13_two_71 : decode cX13_two 71 = .ok (.aload_n 2, 1) := dk_44 (dk_at dksX13_two_3 1 rfl rfl)
theorem dX13_two_72 : decode cX13_two 72 = .ok (.aload_n 3, 1) := dk_45 (dk_at dksX13_two_3 2 rfl rfl)
theorem dX13_two_73 : decode cX13_two 73 = .ok (.invokespecial 122, 3) := dk_183 0 122 (dk_at dksX13_two_3 3 rfl rfl)
theorem dX13_two_76 : decode cX13_two 76 = .ok (.areturn, 1) := dk_176 (dk_at dksX13_two_3 6 rfl rfl)
theorem q131 : (Jvm.Cond.initialized "VowelChoir$LawReader") ∈ lw_all := lw_g (lw_at lw_m1 33 rfl) rfl
theorem q952 : (Jvm.Cond.fieldLink "VowelChoir$LawReader" (23 : Nat) "VowelChoir$LawReader" "size" "I") ∈ lw_all := lw_g (lw_at lw_m4 134 rfl) rfl
theorem q953 : (Jvm.Cond.sameField "VowelChoir$LawReader" "VowelChoir$Reader" "size" "I") ∈ lw_all := lw_g (lw_at lw_m4 135 rfl) rfl
theorem q961 : (Jvm.Cond.fieldLink "VowelChoir$LawReader" (19 : Nat) "VowelChoir$LawReader" "next" "I") ∈ lw_all := lw_g (lw_at lw_m4 143 rfl) rfl
theorem q962 : (Jvm.Cond.sameField "VowelChoir$LawReader" "VowelChoir$Reader" "next" "I") ∈ lw_all := lw_g (lw_at lw_m4 144 rfl) rfl
theorem q970 : (Jvm.Cond.fieldLink "VowelChoir$LawReader" (60 : Nat) "VowelChoir$LawReader" "open" "I") ∈ lw_all := lw_g (lw_at lw_m4 152 rfl) rfl
theorem q971 : (Jvm.Cond.sameField "VowelChoir$LawReader" "VowelChoir$Reader" "open" "I") ∈ lw_all := lw_g (lw_at lw_m4 153 rfl) rfl
theorem q1212 : (Jvm.Cond.selects "VowelChoir$LawReader" ({ cls := "java/lang/Object", name := "getClass", desc := "()Ljava/lang/Class;" } : Jvm.MethodName) ({ cls := "java/lang/Object", name := "getClass", desc := "()Ljava/lang/Class;" } : Jvm.MethodName)) ∈ lw_all := lw_g (lw_at lw_m5 154 rfl) rfl
theorem q1295 : (Jvm.Cond.instantiable "VowelChoir$LawReader" (5 : Nat)) ∈ lw_all := lw_g (lw_at lw_m5 237 rfl) rfl
theorem q1297 : (Jvm.Cond.instanceMethod ({ cls := "VowelChoir$LawReader", name := "<init>", desc := "([BI)V" } : Jvm.MethodName)) ∈ lw_all := lw_g (lw_at lw_m5 239 rfl) rfl
theorem q1298 : (Jvm.Cond.code ({ cls := "VowelChoir$LawReader", name := "<init>", desc := "([BI)V" } : Jvm.MethodName) prog_10_method_1_code (3 : Nat) (Option.none : Option Jvm.ClassFile.FieldType)) ∈ lw_all := lw_g (lw_at lw_m6 0 rfl) rfl
theorem q1299 : (Jvm.Cond.methodLink "VowelChoir$LawReader" (3 : Nat) ({ cls := "VowelChoir$Reader", name := "<init>", desc := "([BI)V" } : Jvm.MethodName)) ∈ lw_all := lw_g (lw_at lw_m6 1 rfl) rfl
theorem q1300 : (Jvm.Cond.laysFinal "VowelChoir$LawReader" "VowelChoir$Reader" "text" "[B") ∈ lw_all := lw_g (lw_at lw_m6 2 rfl) rfl
theorem q1301 : (Jvm.Cond.laysFinal "VowelChoir$LawReader" "VowelChoir$Reader" "size" "I") ∈ lw_all := lw_g (lw_at lw_m6 3 rfl) rfl
theorem q1302 : (Jvm.Cond.lays "VowelChoir$LawReader" "VowelChoir$Reader" "next" "I") ∈ lw_all := lw_g (lw_at lw_m6 4 rfl) rfl
theorem q1303 : (Jvm.Cond.lays "VowelChoir$LawReader" "VowelChoir$Reader" "from" "I") ∈ lw_all := lw_g (lw_at lw_m6 5 rfl) rfl
theorem q1304 : (Jvm.Cond.lays "VowelChoir$LawReader" "VowelChoir$Reader" "open" "I") ∈ lw_all := lw_g (lw_at lw_m6 6 rfl) rfl
theorem q1305 : (Jvm.Cond.superclass "VowelChoir$LawReader" "VowelChoir$Reader") ∈ lw_all := lw_g (lw_at lw_m6 7 rfl) rfl
theorem q1307 : (Jvm.Cond.instanceMethod ({ cls := "VowelChoir$LawReader", name := "reads", desc := "()LVowelChoir$Term;" } : Jvm.MethodName)) ∈ lw_all := lw_g (lw_at lw_m6 9 rfl) rfl
theorem q1308 : (Jvm.Cond.selects "VowelChoir$LawReader" ({ cls := "VowelChoir$LawReader", name := "reads", desc := "()LVowelChoir$Term;" } : Jvm.MethodName) ({ cls := "VowelChoir$LawReader", name := "reads", desc := "()LVowelChoir$Term;" } : Jvm.MethodName)) ∈ lw_all := lw_g (lw_at lw_m6 10 rfl) rfl
theorem q1309 : (Jvm.Cond.code ({ cls := "VowelChoir$LawReader", name := "reads", desc := "()LVowelChoir$Term;" } : Jvm.MethodName) prog_10_method_2_code (2 : Nat) (Option.some (Jvm.ClassFile.FieldType.object "VowelChoir$Term"))) ∈ lw_all := lw_g (lw_at lw_m6 11 rfl) rfl
theorem q1310 : (Jvm.Cond.methodLink "VowelChoir$LawReader" (9 : Nat) ({ cls := "VowelChoir$LawReader", name := "sum", desc := "()LVowelChoir$Term;" } : Jvm.MethodName)) ∈ lw_all := lw_g (lw_at lw_m6 12 rfl) rfl
theorem q1311 : (Jvm.Cond.privateMethod ({ cls := "VowelChoir$LawReader", name := "sum", desc := "()LVowelChoir$Term;" } : Jvm.MethodName)) ∈ lw_tbl := lw_at lw_m6 13 rfl
theorem q1312 : (Jvm.Cond.instanceMethod ({ cls := "VowelChoir$LawReader", name := "sum", desc := "()LVowelChoir$Term;" } : Jvm.MethodName)) ∈ lw_all := lw_g (lw_at lw_m6 14 rfl) rfl
theorem q1313 : (Jvm.Cond.code ({ cls := "VowelChoir$LawReader", name := "sum", desc := "()LVowelChoir$Term;" } : Jvm.MethodName) prog_10_method_3_code (4 : Nat) (Option.some (Jvm.ClassFile.FieldType.object "VowelChoir$Term"))) ∈ lw_all := lw_g (lw_at lw_m6 15 rfl) rfl
theorem q1314 : (Jvm.Cond.methodLink "VowelChoir$LawReader" (30 : Nat) ({ cls := "VowelChoir$LawReader", name := "product", desc := "()LVowelChoir$Term;" } : Jvm.MethodName)) ∈ lw_all := lw_g (lw_at lw_m6 16 rfl) rfl
theorem q1315 : (Jvm.Cond.privateMethod ({ cls := "VowelChoir$LawReader", name := "product", desc := "()LVowelChoir$Term;" } : Jvm.MethodName)) ∈ lw_tbl := lw_at lw_m6 17 rfl
theorem q1316 : (Jvm.Cond.instanceMethod ({ cls := "VowelChoir$LawReader", name := "product", desc := "()LVowelChoir$Term;" } : Jvm.MethodName)) ∈ lw_all := lw_g (lw_at lw_m6 18 rfl) rfl
theorem q1317 : (Jvm.Cond.code ({ cls := "VowelChoir$LawReader", name := "product", desc := "()LVowelChoir$Term;" } : Jvm.MethodName) prog_10_method_4_code (4 : Nat) (Option.some (Jvm.ClassFile.FieldType.object "VowelChoir$Term"))) ∈ lw_all := lw_g (lw_at lw_m6 19 rfl) rfl
theorem q1318 : (Jvm.Cond.methodLink "VowelChoir$LawReader" (41 : Nat) ({ cls := "VowelChoir$LawReader", name := "unit", desc := "()LVowelChoir$Term;" } : Jvm.MethodName)) ∈ lw_all := lw_g (lw_at lw_m6 20 rfl) rfl
theorem q1319 : (Jvm.Cond.privateMethod ({ cls := "VowelChoir$LawReader", name := "unit", desc := "()LVowelChoir$Term;" } : Jvm.MethodName)) ∈ lw_tbl := lw_at lw_m6 21 rfl
theorem q1320 : (Jvm.Cond.instanceMethod ({ cls := "VowelChoir$LawReader", name := "unit", desc := "()LVowelChoir$Term;" } : Jvm.MethodName)) ∈ lw_all := lw_g (lw_at lw_m6 22 rfl) rfl
theorem q1321 : (Jvm.Cond.code ({ cls := "VowelChoir$LawReader", name := "unit", desc := "()LVowelChoir$Term;" } : Jvm.MethodName) prog_10_method_5_code (5 : Nat) (Option.some (Jvm.ClassFile.FieldType.object "VowelChoir$Term"))) ∈ lw_all := lw_g (lw_at lw_m6 23 rfl) rfl
theorem q1322 : (Jvm.Cond.methodLink "VowelChoir$LawReader" (15 : Nat) ({ cls := "VowelChoir$LawReader", name := "sign", desc := "()I" } : Jvm.MethodName)) ∈ lw_all := lw_g (lw_at lw_m6 24 rfl) rfl
theorem q1323 : (Jvm.Cond.sameMethod "VowelChoir$LawReader" "VowelChoir$Reader" "sign" "()I") ∈ lw_all := lw_g (lw_at lw_m6 25 rfl) rfl
theorem q1324 : (Jvm.Cond.selects "VowelChoir$LawReader" ({ cls := "VowelChoir$LawReader", name := "sign", desc := "()I" } : Jvm.MethodName) ({ cls := "VowelChoir$Reader", name := "sign", desc := "()I" } : Jvm.MethodName)) ∈ lw_all := lw_g (lw_at lw_m6 26 rfl) rfl
theorem q1325 : (Jvm.Cond.methodLink "VowelChoir$LawReader" (53 : Nat) ({ cls := "VowelChoir$LawReader", name := "opens", desc := "(I)V" } : Jvm.MethodName)) ∈ lw_all := lw_g (lw_at lw_m6 27 rfl) rfl
theorem q1326 : (Jvm.Cond.sameMethod "VowelChoir$LawReader" "VowelChoir$Reader" "opens" "(I)V") ∈ lw_all := lw_g (lw_at lw_m6 28 rfl) rfl
theorem q1328 : (Jvm.Cond.selects "VowelChoir$LawReader" ({ cls := "VowelChoir$LawReader", name := "opens", desc := "(I)V" } : Jvm.MethodName) ({ cls := "VowelChoir$Reader", name := "opens", desc := "(I)V" } : Jvm.MethodName)) ∈ lw_all := lw_g (lw_at lw_m6 30 rfl) rfl
theorem q1331 : (Jvm.Cond.methodLink "VowelChoir$LawReader" (57 : Nat) ({ cls := "VowelChoir$LawReader", name := "need", desc := "(I)V" } : Jvm.MethodName)) ∈ lw_all := lw_g (lw_at lw_m6 33 rfl) rfl
theorem q1332 : (Jvm.Cond.sameMethod "VowelChoir$LawReader" "VowelChoir$Reader" "need" "(I)V") ∈ lw_all := lw_g (lw_at lw_m6 34 rfl) rfl
theorem q1333 : (Jvm.Cond.selects "VowelChoir$LawReader" ({ cls := "VowelChoir$LawReader", name := "need", desc := "(I)V" } : Jvm.MethodName) ({ cls := "VowelChoir$Reader", name := "need", desc := "(I)V" } : Jvm.MethodName)) ∈ lw_all := lw_g (lw_at lw_m6 35 rfl) rfl
theorem q1334 : (Jvm.Cond.classLink "VowelChoir$LawReader" (63 : Nat) "VowelChoir$Plain") ∈ lw_all := lw_g (lw_at lw_m6 36 rfl) rfl
theorem q1336 : (Jvm.Cond.methodLink "VowelChoir$LawReader" (65 : Nat) ({ cls := "VowelChoir$LawReader", name := "number", desc := "(II)I" } : Jvm.MethodName)) ∈ lw_all := lw_g (lw_at lw_m6 38 rfl) rfl
theorem q1337 : (Jvm.Cond.sameMethod "VowelChoir$LawReader" "VowelChoir$Reader" "number" "(II)I") ∈ lw_all := lw_g (lw_at lw_m6 39 rfl) rfl
theorem q1338 : (Jvm.Cond.selects "VowelChoir$LawReader" ({ cls := "VowelChoir$LawReader", name := "number", desc := "(II)I" } : Jvm.MethodName) ({ cls := "VowelChoir$Reader", name := "number", desc := "(II)I" } : Jvm.MethodName)) ∈ lw_all := lw_g (lw_at lw_m6 40 rfl) rfl
theorem q1339 : (Jvm.Cond.methodLink "VowelChoir$LawReader" (69 : Nat) ({ cls := "VowelChoir$Plain", name := "<init>", desc := "(I)V" } : Jvm.MethodName)) ∈ lw_all := lw_g (lw_at lw_m6 41 rfl) rfl
theorem q1347 : (Jvm.Cond.methodLink "VowelChoir$LawReader" (71 : Nat) ({ cls := "VowelChoir$LawReader", name := "word", desc := "()Ljava/lang/String;" } : Jvm.MethodName)) ∈ lw_all := lw_g (lw_at lw_m6 49 rfl) rfl
theorem q1348 : (Jvm.Cond.sameMethod "VowelChoir$LawReader" "VowelChoir$Reader" "word" "()Ljava/lang/String;") ∈ lw_all := lw_g (lw_at lw_m6 50 rfl) rfl
theorem q1349 : (Jvm.Cond.selects "VowelChoir$LawReader" ({ cls := "VowelChoir$LawReader", name := "word", desc := "()Ljava/lang/String;" } : Jvm.MethodName) ({ cls := "VowelChoir$Reader", name := "word", desc := "()Ljava/lang/String;" } : Jvm.MethodName)) ∈ lw_all := lw_g (lw_at lw_m6 51 rfl) rfl
theorem q1350 : (Jvm.Cond.methodLink "VowelChoir$LawReader" (75 : Nat) ({ cls := "java/lang/String", name := "hashCode", desc := "()I" } : Jvm.MethodName)) ∈ lw_all := lw_g (lw_at lw_m6 52 rfl) rfl
theorem q1351 : (Jvm.Cond.stringRef "VowelChoir$LawReader" (80 : Nat) "length") ∈ lw_tbl := lw_at lw_m6 53 rfl
theorem q1352 : (Jvm.Cond.methodLink "VowelChoir$LawReader" (82 : Nat) ({ cls := "java/lang/String", name := "equals", desc := "(Ljava/lang/Object;)Z" } : Jvm.MethodName)) ∈ lw_all := lw_g (lw_at lw_m6 54 rfl) rfl
theorem q1353 : (Jvm.Cond.stringRef "VowelChoir$LawReader" (86 : Nat) "pay") ∈ lw_tbl := lw_at lw_m6 55 rfl
theorem q1354 : (Jvm.Cond.stringRef "VowelChoir$LawReader" (88 : Nat) "left") ∈ lw_tbl := lw_at lw_m6 56 rfl
theorem q1355 : (Jvm.Cond.stringRef "VowelChoir$LawReader" (90 : Nat) "sung") ∈ lw_tbl := lw_at lw_m6 57 rfl
theorem q1356 : (Jvm.Cond.stringRef "VowelChoir$LawReader" (92 : Nat) "note") ∈ lw_tbl := lw_at lw_m6 58 rfl
theorem q1357 : (Jvm.Cond.stringRef "VowelChoir$LawReader" (94 : Nat) "vowel") ∈ lw_tbl := lw_at lw_m6 59 rfl
theorem q1358 : (Jvm.Cond.stringRef "VowelChoir$LawReader" (96 : Nat) "day") ∈ lw_tbl := lw_at lw_m6 60 rfl
theorem q1359 : (Jvm.Cond.stringRef "VowelChoir$LawReader" (98 : Nat) "singer") ∈ lw_tbl := lw_at lw_m6 61 rfl
theorem q1360 : (Jvm.Cond.stringRef "VowelChoir$LawReader" (100 : Nat) "least") ∈ lw_tbl := lw_at lw_m6 62 rfl
theorem q1361 : (Jvm.Cond.stringRef "VowelChoir$LawReader" (102 : Nat) "most") ∈ lw_tbl := lw_at lw_m6 63 rfl
theorem q1362 : (Jvm.Cond.methodLink "VowelChoir$LawReader" (104 : Nat) ({ cls := "VowelChoir$LawReader", name := "fact", desc := "(Ljava/lang/String;I)LVowelChoir$Term;" } : Jvm.MethodName)) ∈ lw_all := lw_g (lw_at lw_m6 64 rfl) rfl
theorem q1363 : (Jvm.Cond.privateMethod ({ cls := "VowelChoir$LawReader", name := "fact", desc := "(Ljava/lang/String;I)LVowelChoir$Term;" } : Jvm.MethodName)) ∈ lw_tbl := lw_at lw_m6 65 rfl
theorem q1364 : (Jvm.Cond.instanceMethod ({ cls := "VowelChoir$LawReader", name := "fact", desc := "(Ljava/lang/String;I)LVowelChoir$Term;" } : Jvm.MethodName)) ∈ lw_all := lw_g (lw_at lw_m6 66 rfl) rfl
theorem q1365 : (Jvm.Cond.code ({ cls := "VowelChoir$LawReader", name := "fact", desc := "(Ljava/lang/String;I)LVowelChoir$Term;" } : Jvm.MethodName) prog_10_method_6_code (3 : Nat) (Option.some (Jvm.ClassFile.FieldType.object "VowelChoir$Term"))) ∈ lw_all := lw_g (lw_at lw_m6 67 rfl) rfl
theorem q1366 : (Jvm.Cond.methodLink "VowelChoir$LawReader" (112 : Nat) ({ cls := "java/lang/String", name := "length", desc := "()I" } : Jvm.MethodName)) ∈ lw_all := lw_g (lw_at lw_m6 68 rfl) rfl
theorem q1367 : (Jvm.Cond.classLink "VowelChoir$LawReader" (114 : Nat) "VowelChoir$Fact") ∈ lw_all := lw_g (lw_at lw_m6 69 rfl) rfl
theorem q1368 : (Jvm.Cond.methodLink "VowelChoir$LawReader" (116 : Nat) ({ cls := "VowelChoir$Fact", name := "<init>", desc := "(I)V" } : Jvm.MethodName)) ∈ lw_all := lw_g (lw_at lw_m6 70 rfl) rfl
theorem q1369 : (Jvm.Cond.methodLink "VowelChoir$LawReader" (108 : Nat) ({ cls := "VowelChoir$LawReader", name := "two", desc := "(Ljava/lang/String;)LVowelChoir$Term;" } : Jvm.MethodName)) ∈ lw_all := lw_g (lw_at lw_m6 71 rfl) rfl
theorem q1370 : (Jvm.Cond.privateMethod ({ cls := "VowelChoir$LawReader", name := "two", desc := "(Ljava/lang/String;)LVowelChoir$Term;" } : Jvm.MethodName)) ∈ lw_tbl := lw_at lw_m6 72 rfl
theorem q1371 : (Jvm.Cond.instanceMethod ({ cls := "VowelChoir$LawReader", name := "two", desc := "(Ljava/lang/String;)LVowelChoir$Term;" } : Jvm.MethodName)) ∈ lw_all := lw_g (lw_at lw_m6 73 rfl) rfl
theorem q1372 : (Jvm.Cond.code ({ cls := "VowelChoir$LawReader", name := "two", desc := "(Ljava/lang/String;)LVowelChoir$Term;" } : Jvm.MethodName) prog_10_method_7_code (4 : Nat) (Option.some (Jvm.ClassFile.FieldType.object "VowelChoir$Term"))) ∈ lw_all := lw_g (lw_at lw_m6 74 rfl) rfl
theorem q1373 : (Jvm.Cond.classLink "VowelChoir$LawReader" (117 : Nat) "VowelChoir$Least") ∈ lw_all := lw_g (lw_at lw_m6 75 rfl) rfl
theorem q1375 : (Jvm.Cond.methodLink "VowelChoir$LawReader" (119 : Nat) ({ cls := "VowelChoir$Least", name := "<init>", desc := "(LVowelChoir$Term;LVowelChoir$Term;)V" } : Jvm.MethodName)) ∈ lw_all := lw_g (lw_at lw_m6 77 rfl) rfl
theorem q1389 : (Jvm.Cond.classLink "VowelChoir$LawReader" (120 : Nat) "VowelChoir$Most") ∈ lw_all := lw_g (lw_at lw_m6 91 rfl) rfl
theorem q1391 : (Jvm.Cond.methodLink "VowelChoir$LawReader" (122 : Nat) ({ cls := "VowelChoir$Most", name := "<init>", desc := "(LVowelChoir$Term;LVowelChoir$Term;)V" } : Jvm.MethodName)) ∈ lw_all := lw_g (lw_at lw_m6 93 rfl) rfl
theorem q1398 : (Jvm.Cond.methodLink "VowelChoir$LawReader" (26 : Nat) ({ cls := "VowelChoir$LawReader", name := "wrong", desc := "()LVowelChoir$Wrong;" } : Jvm.MethodName)) ∈ lw_all := lw_g (lw_at lw_m6 100 rfl) rfl
theorem q1399 : (Jvm.Cond.sameMethod "VowelChoir$LawReader" "VowelChoir$Reader" "wrong" "()LVowelChoir$Wrong;") ∈ lw_all := lw_g (lw_at lw_m6 101 rfl) rfl
theorem q1400 : (Jvm.Cond.selects "VowelChoir$LawReader" ({ cls := "VowelChoir$LawReader", name := "wrong", desc := "()LVowelChoir$Wrong;" } : Jvm.MethodName) ({ cls := "VowelChoir$Reader", name := "wrong", desc := "()LVowelChoir$Wrong;" } : Jvm.MethodName)) ∈ lw_all := lw_g (lw_at lw_m6 102 rfl) rfl
theorem q1401 : (Jvm.Cond.classLink "VowelChoir$LawReader" (44 : Nat) "VowelChoir$Times") ∈ lw_all := lw_g (lw_at lw_m6 103 rfl) rfl
theorem q1403 : (Jvm.Cond.methodLink "VowelChoir$LawReader" (46 : Nat) ({ cls := "VowelChoir$Times", name := "<init>", desc := "(LVowelChoir$Term;LVowelChoir$Term;)V" } : Jvm.MethodName)) ∈ lw_all := lw_g (lw_at lw_m6 105 rfl) rfl
theorem q1410 : (Jvm.Cond.classLink "VowelChoir$LawReader" (47 : Nat) "VowelChoir$By") ∈ lw_all := lw_g (lw_at lw_m6 112 rfl) rfl
theorem q1412 : (Jvm.Cond.methodLink "VowelChoir$LawReader" (49 : Nat) ({ cls := "VowelChoir$By", name := "<init>", desc := "(LVowelChoir$Term;LVowelChoir$Term;)V" } : Jvm.MethodName)) ∈ lw_all := lw_g (lw_at lw_m6 114 rfl) rfl
theorem q1419 : (Jvm.Cond.classLink "VowelChoir$LawReader" (50 : Nat) "VowelChoir$Leaves") ∈ lw_all := lw_g (lw_at lw_m6 121 rfl) rfl
theorem q1421 : (Jvm.Cond.methodLink "VowelChoir$LawReader" (52 : Nat) ({ cls := "VowelChoir$Leaves", name := "<init>", desc := "(LVowelChoir$Term;LVowelChoir$Term;)V" } : Jvm.MethodName)) ∈ lw_all := lw_g (lw_at lw_m6 123 rfl) rfl
theorem q1428 : (Jvm.Cond.classLink "VowelChoir$LawReader" (33 : Nat) "VowelChoir$Plus") ∈ lw_all := lw_g (lw_at lw_m6 130 rfl) rfl
theorem q1430 : (Jvm.Cond.methodLink "VowelChoir$LawReader" (35 : Nat) ({ cls := "VowelChoir$Plus", name := "<init>", desc := "(LVowelChoir$Term;LVowelChoir$Term;)V" } : Jvm.MethodName)) ∈ lw_all := lw_g (lw_at lw_m6 132 rfl) rfl
theorem q1437 : (Jvm.Cond.classLink "VowelChoir$LawReader" (38 : Nat) "VowelChoir$Minus") ∈ lw_all := lw_g (lw_at lw_m6 139 rfl) rfl
theorem q1439 : (Jvm.Cond.methodLink "VowelChoir$LawReader" (40 : Nat) ({ cls := "VowelChoir$Minus", name := "<init>", desc := "(LVowelChoir$Term;LVowelChoir$Term;)V" } : Jvm.MethodName)) ∈ lw_all := lw_g (lw_at lw_m6 141 rfl) rfl
theorem q2618 : (Jvm.Cond.selects "VowelChoir$LawReader" ({ cls := "VowelChoir$Reader", name := "sign", desc := "()I" } : Jvm.MethodName) ({ cls := "VowelChoir$Reader", name := "sign", desc := "()I" } : Jvm.MethodName)) ∈ lw_all := lw_g (lw_at lw_m11 120 rfl) rfl
theorem q2625 : (Jvm.Cond.selects "VowelChoir$LawReader" ({ cls := "VowelChoir$Reader", name := "wrong", desc := "()LVowelChoir$Wrong;" } : Jvm.MethodName) ({ cls := "VowelChoir$Reader", name := "wrong", desc := "()LVowelChoir$Wrong;" } : Jvm.MethodName)) ∈ lw_all := lw_g (lw_at lw_m11 127 rfl) rfl
theorem q2650 : (Jvm.Cond.castable "VowelChoir$LawReader" "java/lang/Object") ∈ lw_tbl := lw_at lw_m11 152 rfl
theorem in_X13 : ∀ w ∈ wsX130, w ∈ lw_all := lw_in wsX130 [1300, 1301, 1302, 1303, 1304] (by decide +kernel) (by decide +kernel)
/-! VowelChoir$Plain -/
set_option maxRecDepth 100000
def RX14 : String := "VowelChoir$Plain"
def TX14 : u_T := fun k => match k with
  | _ => ("VowelChoir$Plain", "n", "I", true)
def tyX14 : Nat → FieldType := fun k => match k with
  | _ => .int
abbrev wsX140 : List Cond := u_ws RX14 TX14 1
theorem nmX14 : ∀ a, a < 1 → ∀ b, b < 1 → a ≠ b → (TX14 a).2.1 ≠ (TX14 b).2.1 := by decide +kernel
theorem tyX14_ok : ∀ k, k < 1 → parseFieldDescriptor (TX14 k).2.2.1 = some (tyX14 k) := by decide +kernel
abbrev cX14_of : ByteArray := prog_18_method_2_code
def yX14_of : MethodName := ⟨RX14, "of", "([I)I"⟩
theorem dX14_of_0 : decode cX14_of 0 = .ok (.aload_n 0, 1) := by decide +kernel
theorem dX14_of_1 : decode cX14_of 1 = .ok (.getfield 7, 3) := by decide +kernel
theorem dX14_of_4 : decode cX14_of 4 = .ok (.ireturn, 1) := by decide +kernel
abbrev cX14_init : ByteArray := prog_18_method_1_code
def yX14_init : MethodName := ⟨RX14, "<init>", "(I)V"⟩
def dkwX14_init_0 : List UInt8 := [42, 183, 0, 1, 42, 27, 181, 0, 7, 177]
abbrev dktX14_init_0 : List UInt8 := dkwX14_init_0 ++ []
theorem dksX14_init_0 : cX14_init.data.toList.drop 0 = dktX14_init_0 := by decide +kernel
theorem dX14_init_0 : decode cX14_init 0 = .ok (.aload_n 0, 1) := dk_42 (dk_at dksX14_init_0 0 rfl rfl)
theorem dX14_init_1 : decode cX14_init 1 = .ok (.invokespecial 1, 3) := dk_183 0 1 (dk_at dksX14_init_0 1 rfl rfl)
theorem dX14_init_4 : decode cX14_init 4 = .ok (.aload_n 0, 1) := dk_42 (dk_at dksX14_init_0 4 rfl rfl)
theorem dX14_init_5 : decode cX14_init 5 = .ok (.iload_n 1, 1) := dk_27 (dk_at dksX14_init_0 5 rfl rfl)
theorem dX14_init_6 : decode cX14_init 6 = .ok (.putfield 7, 3) := dk_181 0 7 (dk_at dksX14_init_0 6 rfl rfl)
theorem dX14_init_9 : decode cX14_init 9 = .ok (.return_, 1) := dk_177 (dk_at dksX14_init_0 9 rfl rfl)
theorem q132 : (Jvm.Cond.initialized "VowelChoir$Plain") ∈ lw_all := lw_g (lw_at lw_m1 34 rfl) rfl
theorem q778 : (Jvm.Cond.instanceMethod ({ cls := "VowelChoir$Plain", name := "of", desc := "([I)I" } : Jvm.MethodName)) ∈ lw_all := lw_g (lw_at lw_m3 200 rfl) rfl
theorem q779 : (Jvm.Cond.code ({ cls := "VowelChoir$Plain", name := "of", desc := "([I)I" } : Jvm.MethodName) prog_18_method_2_code (2 : Nat) (Option.some Jvm.ClassFile.FieldType.int)) ∈ lw_all := lw_g (lw_at lw_m3 201 rfl) rfl
theorem q811 : (Jvm.Cond.selects "VowelChoir$Plain" ({ cls := "VowelChoir$Term", name := "of", desc := "([I)I" } : Jvm.MethodName) ({ cls := "VowelChoir$Plain", name := "of", desc := "([I)I" } : Jvm.MethodName)) ∈ lw_all := lw_g (lw_at lw_m3 233 rfl) rfl
theorem q1220 : (Jvm.Cond.selects "VowelChoir$Plain" ({ cls := "java/lang/Object", name := "getClass", desc := "()Ljava/lang/Class;" } : Jvm.MethodName) ({ cls := "java/lang/Object", name := "getClass", desc := "()Ljava/lang/Class;" } : Jvm.MethodName)) ∈ lw_all := lw_g (lw_at lw_m5 162 rfl) rfl
theorem q1335 : (Jvm.Cond.instantiable "VowelChoir$Plain" (1 : Nat)) ∈ lw_all := lw_g (lw_at lw_m6 37 rfl) rfl
theorem q1340 : (Jvm.Cond.instanceMethod ({ cls := "VowelChoir$Plain", name := "<init>", desc := "(I)V" } : Jvm.MethodName)) ∈ lw_all := lw_g (lw_at lw_m6 42 rfl) rfl
theorem q1341 : (Jvm.Cond.code ({ cls := "VowelChoir$Plain", name := "<init>", desc := "(I)V" } : Jvm.MethodName) prog_18_method_1_code (2 : Nat) (Option.none : Option Jvm.ClassFile.FieldType)) ∈ lw_all := lw_g (lw_at lw_m6 43 rfl) rfl
theorem q1342 : (Jvm.Cond.methodLinkNest "VowelChoir$Plain" (1 : Nat) ({ cls := "VowelChoir$Term", name := "<init>", desc := "()V" } : Jvm.MethodName) "VowelChoir") ∈ lw_tbl := lw_at lw_m6 44 rfl
theorem q1343 : (Jvm.Cond.fieldLink "VowelChoir$Plain" (7 : Nat) "VowelChoir$Plain" "n" "I") ∈ lw_all := lw_g (lw_at lw_m6 45 rfl) rfl
theorem q1344 : (Jvm.Cond.laysFinal "VowelChoir$Plain" "VowelChoir$Plain" "n" "I") ∈ lw_all := lw_g (lw_at lw_m6 46 rfl) rfl
theorem q1345 : (Jvm.Cond.soleField "VowelChoir$Plain" "n") ∈ lw_all := lw_g (lw_at lw_m6 47 rfl) rfl
theorem q1346 : (Jvm.Cond.superclass "VowelChoir$Plain" "VowelChoir$Term") ∈ lw_all := lw_g (lw_at lw_m6 48 rfl) rfl
theorem q2651 : (Jvm.Cond.castable "VowelChoir$Plain" "java/lang/Object") ∈ lw_tbl := lw_at lw_m11 153 rfl
theorem in_X14 : ∀ w ∈ wsX140, w ∈ lw_all := lw_in wsX140 [1344] (by decide +kernel) (by decide +kernel)
/-! VowelChoir$Two -/
set_option maxRecDepth 100000
def RX15 : String := "VowelChoir$Two"
abbrev cX15_of : ByteArray := prog_29_method_3_code
def yX15_of : MethodName := ⟨RX15, "of", "([I)I"⟩
def dkwX15_of_0 : List UInt8 := [42, 42, 180, 0, 7, 43, 182, 0, 16, 42, 180, 0, 13, 43, 182, 0, 16, 182, 0, 20, 172]
abbrev dktX15_of_0 : List UInt8 := dkwX15_of_0 ++ []
theorem dksX15_of_0 : cX15_of.data.toList.drop 0 = dktX15_of_0 := by decide +kernel
theorem dX15_of_0 : decode cX15_of 0 = .ok (.aload_n 0, 1) := dk_42 (dk_at dksX15_of_0 0 rfl rfl)
theorem dX15_of_1 : decode cX15_of 1 = .ok (.aload_n 0, 1) := dk_42 (dk_at dksX15_of_0 1 rfl rfl)
theorem dX15_of_2 : decode cX15_of 2 = .ok (.getfield 7, 3) := dk_180 0 7 (dk_at dksX15_of_0 2 rfl rfl)
theorem dX15_of_5 : decode cX15_of 5 = .ok (.aload_n 1, 1) := dk_43 (dk_at dksX15_of_0 5 rfl rfl)
theorem dX15_of_6 : decode cX15_of 6 = .ok (.invokevirtual 16, 3) := dk_182 0 16 (dk_at dksX15_of_0 6 rfl rfl)
theorem dX15_of_9 : decode cX15_of 9 = .ok (.aload_n 0, 1) := dk_42 (dk_at dksX15_of_0 9 rfl rfl)
theorem dX15_of_10 : decode cX15_of 10 = .ok (.getfield 13, 3) := dk_180 0 13 (dk_at dksX15_of_0 10 rfl rfl)
theorem dX15_of_13 : decode cX15_of 13 = .ok (.aload_n 1, 1) := dk_43 (dk_at dksX15_of_0 13 rfl rfl)
theorem dX15_of_14 : decode cX15_of 14 = .ok (.invokevirtual 16, 3) := dk_182 0 16 (dk_at dksX15_of_0 14 rfl rfl)
theorem dX15_of_17 : decode cX15_of 17 = .ok (.invokevirtual 20, 3) := dk_182 0 20 (dk_at dksX15_of_0 17 rfl rfl)
theorem dX15_of_20 : decode cX15_of 20 = .ok (.ireturn, 1) := dk_172 (dk_at dksX15_of_0 20 rfl rfl)
abbrev cX15_init : ByteArray := prog_29_method_1_code
def yX15_init : MethodName := ⟨RX15, "<init>", "(LVowelChoir$Term;LVowelChoir$Term;)V"⟩
def dkwX15_init_0 : List UInt8 := [42, 183, 0, 1, 42, 43, 181, 0, 7, 42, 44, 181, 0, 13, 177]
abbrev dktX15_init_0 : List UInt8 := dkwX15_init_0 ++ []
theorem dksX15_init_0 : cX15_init.data.toList.drop 0 = dktX15_init_0 := by decide +kernel
theorem dX15_init_0 : decode cX15_init 0 = .ok (.aload_n 0, 1) := dk_42 (dk_at dksX15_init_0 0 rfl rfl)
theorem dX15_init_1 : decode cX15_init 1 = .ok (.invokespecial 1, 3) := dk_183 0 1 (dk_at dksX15_init_0 1 rfl rfl)
theorem dX15_init_4 : decode cX15_init 4 = .ok (.aload_n 0, 1) := dk_42 (dk_at dksX15_init_0 4 rfl rfl)
theorem dX15_init_5 : decode cX15_init 5 = .ok (.aload_n 1, 1) := dk_43 (dk_at dksX15_init_0 5 rfl rfl)
theorem dX15_init_6 : decode cX15_init 6 = .ok (.putfield 7, 3) := dk_181 0 7 (dk_at dksX15_init_0 6 rfl rfl)
theorem dX15_init_9 : decode cX15_init 9 = .ok (.aload_n 0, 1) := dk_42 (dk_at dksX15_init_0 9 rfl rfl)
theorem dX15_init_10 : decode cX15_init 10 = .ok (.aload_n 2, 1) := dk_44 (dk_at dksX15_init_0 10 rfl rfl)
theorem dX15_init_11 : decode cX15_init 11 = .ok (.putfield 13, 3) := dk_181 0 13 (dk_at dksX15_init_0 11 rfl rfl)
theorem dX15_init_14 : decode cX15_init 14 = .ok (.return_, 1) := dk_177 (dk_at dksX15_init_0 14 rfl rfl)
theorem q133 : (Jvm.Cond.initialized "VowelChoir$Two") ∈ lw_all := lw_g (lw_at lw_m1 35 rfl) rfl
theorem q773 : (Jvm.Cond.instanceMethod ({ cls := "VowelChoir$Two", name := "of", desc := "([I)I" } : Jvm.MethodName)) ∈ lw_all := lw_g (lw_at lw_m3 195 rfl) rfl
theorem q774 : (Jvm.Cond.code ({ cls := "VowelChoir$Two", name := "of", desc := "([I)I" } : Jvm.MethodName) prog_29_method_3_code (2 : Nat) (Option.some Jvm.ClassFile.FieldType.int)) ∈ lw_all := lw_g (lw_at lw_m3 196 rfl) rfl
theorem q775 : (Jvm.Cond.methodLink "VowelChoir$Two" (16 : Nat) ({ cls := "VowelChoir$Term", name := "of", desc := "([I)I" } : Jvm.MethodName)) ∈ lw_all := lw_g (lw_at lw_m3 197 rfl) rfl
theorem q780 : (Jvm.Cond.methodLink "VowelChoir$Two" (20 : Nat) ({ cls := "VowelChoir$Two", name := "with", desc := "(II)I" } : Jvm.MethodName)) ∈ lw_all := lw_g (lw_at lw_m3 202 rfl) rfl
theorem q781 : (Jvm.Cond.declares ({ cls := "VowelChoir$Two", name := "with", desc := "(II)I" } : Jvm.MethodName)) ∈ lw_tbl := lw_at lw_m3 203 rfl
theorem q782 : (Jvm.Cond.sameMethod "VowelChoir$Two" "VowelChoir$Two" "with" "(II)I") ∈ lw_all := lw_g (lw_at lw_m3 204 rfl) rfl
theorem q1379 : (Jvm.Cond.instanceMethod ({ cls := "VowelChoir$Two", name := "<init>", desc := "(LVowelChoir$Term;LVowelChoir$Term;)V" } : Jvm.MethodName)) ∈ lw_all := lw_g (lw_at lw_m6 81 rfl) rfl
theorem q1380 : (Jvm.Cond.code ({ cls := "VowelChoir$Two", name := "<init>", desc := "(LVowelChoir$Term;LVowelChoir$Term;)V" } : Jvm.MethodName) prog_29_method_1_code (3 : Nat) (Option.none : Option Jvm.ClassFile.FieldType)) ∈ lw_all := lw_g (lw_at lw_m6 82 rfl) rfl
theorem q1381 : (Jvm.Cond.methodLinkNest "VowelChoir$Two" (1 : Nat) ({ cls := "VowelChoir$Term", name := "<init>", desc := "()V" } : Jvm.MethodName) "VowelChoir") ∈ lw_tbl := lw_at lw_m6 83 rfl
theorem q1382 : (Jvm.Cond.fieldLink "VowelChoir$Two" (7 : Nat) "VowelChoir$Two" "a" "LVowelChoir$Term;") ∈ lw_all := lw_g (lw_at lw_m6 84 rfl) rfl
theorem q1383 : (Jvm.Cond.fieldLink "VowelChoir$Two" (13 : Nat) "VowelChoir$Two" "b" "LVowelChoir$Term;") ∈ lw_all := lw_g (lw_at lw_m6 85 rfl) rfl
theorem q1385 : (Jvm.Cond.soleField "VowelChoir$Two" "a") ∈ lw_all := lw_g (lw_at lw_m6 87 rfl) rfl
theorem q1387 : (Jvm.Cond.soleField "VowelChoir$Two" "b") ∈ lw_all := lw_g (lw_at lw_m6 89 rfl) rfl
/-! VowelChoir$Least -/
set_option maxRecDepth 100000
def RX16 : String := "VowelChoir$Least"
def TX16 : u_T := fun k => match k with
  | 0 => ("VowelChoir$Two", "a", "LVowelChoir$Term;", true)
  | _ => ("VowelChoir$Two", "b", "LVowelChoir$Term;", true)
def tyX16 : Nat → FieldType := fun k => match k with
  | 0 => .object "VowelChoir$Term"
  | _ => .object "VowelChoir$Term"
abbrev wsX160 : List Cond := u_ws RX16 TX16 2
theorem nmX16 : ∀ a, a < 2 → ∀ b, b < 2 → a ≠ b → (TX16 a).2.1 ≠ (TX16 b).2.1 := by decide +kernel
theorem tyX16_ok : ∀ k, k < 2 → parseFieldDescriptor (TX16 k).2.2.1 = some (tyX16 k) := by decide +kernel
abbrev cX16_with : ByteArray := prog_11_method_2_code
def yX16_with : MethodName := ⟨RX16, "with", "(II)I"⟩
def dkwX16_with_0 : List UInt8 := [27, 28, 184, 0, 7, 172]
abbrev dktX16_with_0 : List UInt8 := dkwX16_with_0 ++ []
theorem dksX16_with_0 : cX16_with.data.toList.drop 0 = dktX16_with_0 := by decide +kernel
theorem dX16_with_0 : decode cX16_with 0 = .ok (.iload_n 1, 1) := dk_27 (dk_at dksX16_with_0 0 rfl rfl)
theorem dX16_with_1 : decode cX16_with 1 = .ok (.iload_n 2, 1) := dk_28 (dk_at dksX16_with_0 1 rfl rfl)
theorem dX16_with_2 : decode cX16_with 2 = .ok (.invokestatic 7, 3) := dk_184 0 7 (dk_at dksX16_with_0 2 rfl rfl)
theorem dX16_with_5 : decode cX16_with 5 = .ok (.ireturn, 1) := dk_172 (dk_at dksX16_with_0 5 rfl rfl)
abbrev cX16_init : ByteArray := prog_11_method_1_code
def yX16_init : MethodName := ⟨RX16, "<init>", "(LVowelChoir$Term;LVowelChoir$Term;)V"⟩
def dkwX16_init_0 : List UInt8 := [42, 43, 44, 183, 0, 1, 177]
abbrev dktX16_init_0 : List UInt8 := dkwX16_init_0 ++ []
theorem dksX16_init_0 : cX16_init.data.toList.drop 0 = dktX16_init_0 := by decide +kernel
theorem dX16_init_0 : decode cX16_init 0 = .ok (.aload_n 0, 1) := dk_42 (dk_at dksX16_init_0 0 rfl rfl)
theorem dX16_init_1 : decode cX16_init 1 = .ok (.aload_n 1, 1) := dk_43 (dk_at dksX16_init_0 1 rfl rfl)
theorem dX16_init_2 : decode cX16_init 2 = .ok (.aload_n 2, 1) := dk_44 (dk_at dksX16_init_0 2 rfl rfl)
theorem dX16_init_3 : decode cX16_init 3 = .ok (.invokespecial 1, 3) := dk_183 0 1 (dk_at dksX16_init_0 3 rfl rfl)
theorem dX16_init_6 : decode cX16_init 6 = .ok (.return_, 1) := dk_177 (dk_at dksX16_init_0 6 rfl rfl)
theorem q134 : (Jvm.Cond.initialized "VowelChoir$Least") ∈ lw_all := lw_g (lw_at lw_m1 36 rfl) rfl
theorem q786 : (Jvm.Cond.selects "VowelChoir$Least" ({ cls := "VowelChoir$Two", name := "with", desc := "(II)I" } : Jvm.MethodName) ({ cls := "VowelChoir$Least", name := "with", desc := "(II)I" } : Jvm.MethodName)) ∈ lw_all := lw_g (lw_at lw_m3 208 rfl) rfl
theorem q787 : (Jvm.Cond.instanceMethod ({ cls := "VowelChoir$Least", name := "with", desc := "(II)I" } : Jvm.MethodName)) ∈ lw_all := lw_g (lw_at lw_m3 209 rfl) rfl
theorem q788 : (Jvm.Cond.code ({ cls := "VowelChoir$Least", name := "with", desc := "(II)I" } : Jvm.MethodName) prog_11_method_2_code (3 : Nat) (Option.some Jvm.ClassFile.FieldType.int)) ∈ lw_all := lw_g (lw_at lw_m3 210 rfl) rfl
theorem q789 : (Jvm.Cond.methodLink "VowelChoir$Least" (7 : Nat) ({ cls := "java/lang/Math", name := "min", desc := "(II)I" } : Jvm.MethodName)) ∈ lw_all := lw_g (lw_at lw_m3 211 rfl) rfl
theorem q807 : (Jvm.Cond.selects "VowelChoir$Least" ({ cls := "VowelChoir$Term", name := "of", desc := "([I)I" } : Jvm.MethodName) ({ cls := "VowelChoir$Two", name := "of", desc := "([I)I" } : Jvm.MethodName)) ∈ lw_all := lw_g (lw_at lw_m3 229 rfl) rfl
theorem q1213 : (Jvm.Cond.selects "VowelChoir$Least" ({ cls := "java/lang/Object", name := "getClass", desc := "()Ljava/lang/Class;" } : Jvm.MethodName) ({ cls := "java/lang/Object", name := "getClass", desc := "()Ljava/lang/Class;" } : Jvm.MethodName)) ∈ lw_all := lw_g (lw_at lw_m5 155 rfl) rfl
theorem q1374 : (Jvm.Cond.instantiable "VowelChoir$Least" (2 : Nat)) ∈ lw_all := lw_g (lw_at lw_m6 76 rfl) rfl
theorem q1376 : (Jvm.Cond.instanceMethod ({ cls := "VowelChoir$Least", name := "<init>", desc := "(LVowelChoir$Term;LVowelChoir$Term;)V" } : Jvm.MethodName)) ∈ lw_all := lw_g (lw_at lw_m6 78 rfl) rfl
theorem q1377 : (Jvm.Cond.code ({ cls := "VowelChoir$Least", name := "<init>", desc := "(LVowelChoir$Term;LVowelChoir$Term;)V" } : Jvm.MethodName) prog_11_method_1_code (3 : Nat) (Option.none : Option Jvm.ClassFile.FieldType)) ∈ lw_all := lw_g (lw_at lw_m6 79 rfl) rfl
theorem q1378 : (Jvm.Cond.methodLink "VowelChoir$Least" (1 : Nat) ({ cls := "VowelChoir$Two", name := "<init>", desc := "(LVowelChoir$Term;LVowelChoir$Term;)V" } : Jvm.MethodName)) ∈ lw_all := lw_g (lw_at lw_m6 80 rfl) rfl
theorem q1384 : (Jvm.Cond.laysFinal "VowelChoir$Least" "VowelChoir$Two" "a" "LVowelChoir$Term;") ∈ lw_all := lw_g (lw_at lw_m6 86 rfl) rfl
theorem q1386 : (Jvm.Cond.laysFinal "VowelChoir$Least" "VowelChoir$Two" "b" "LVowelChoir$Term;") ∈ lw_all := lw_g (lw_at lw_m6 88 rfl) rfl
theorem q1388 : (Jvm.Cond.superclass "VowelChoir$Least" "VowelChoir$Two") ∈ lw_all := lw_g (lw_at lw_m6 90 rfl) rfl
theorem q2652 : (Jvm.Cond.castable "VowelChoir$Least" "java/lang/Object") ∈ lw_tbl := lw_at lw_m11 154 rfl
theorem in_X16 : ∀ w ∈ wsX160, w ∈ lw_all := lw_in wsX160 [1384, 1386] (by decide +kernel) (by decide +kernel)
/-! VowelChoir$Most -/
set_option maxRecDepth 100000
def RX17 : String := "VowelChoir$Most"
def TX17 : u_T := fun k => match k with
  | 0 => ("VowelChoir$Two", "a", "LVowelChoir$Term;", true)
  | _ => ("VowelChoir$Two", "b", "LVowelChoir$Term;", true)
def tyX17 : Nat → FieldType := fun k => match k with
  | 0 => .object "VowelChoir$Term"
  | _ => .object "VowelChoir$Term"
abbrev wsX170 : List Cond := u_ws RX17 TX17 2
theorem nmX17 : ∀ a, a < 2 → ∀ b, b < 2 → a ≠ b → (TX17 a).2.1 ≠ (TX17 b).2.1 := by decide +kernel
theorem tyX17_ok : ∀ k, k < 2 → parseFieldDescriptor (TX17 k).2.2.1 = some (tyX17 k) := by decide +kernel
abbrev cX17_with : ByteArray := prog_15_method_2_code
def yX17_with : MethodName := ⟨RX17, "with", "(II)I"⟩
def dkwX17_with_0 : List UInt8 := [27, 28, 184, 0, 7, 172]
abbrev dktX17_with_0 : List UInt8 := dkwX17_with_0 ++ []
theorem dksX17_with_0 : cX17_with.data.toList.drop 0 = dktX17_with_0 := by decide +kernel
theorem dX17_with_0 : decode cX17_with 0 = .ok (.iload_n 1, 1) := dk_27 (dk_at dksX17_with_0 0 rfl rfl)
theorem dX17_with_1 : decode cX17_with 1 = .ok (.iload_n 2, 1) := dk_28 (dk_at dksX17_with_0 1 rfl rfl)
theorem dX17_with_2 : decode cX17_with 2 = .ok (.invokestatic 7, 3) := dk_184 0 7 (dk_at dksX17_with_0 2 rfl rfl)
theorem dX17_with_5 : decode cX17_with 5 = .ok (.ireturn, 1) := dk_172 (dk_at dksX17_with_0 5 rfl rfl)
abbrev cX17_init : ByteArray := prog_15_method_1_code
def yX17_init : MethodName := ⟨RX17, "<init>", "(LVowelChoir$Term;LVowelChoir$Term;)V"⟩
def dkwX17_init_0 : List UInt8 := [42, 43, 44, 183, 0, 1, 177]
abbrev dktX17_init_0 : List UInt8 := dkwX17_init_0 ++ []
theorem dksX17_init_0 : cX17_init.data.toList.drop 0 = dktX17_init_0 := by decide +kernel
theorem dX17_init_0 : decode cX17_init 0 = .ok (.aload_n 0, 1) := dk_42 (dk_at dksX17_init_0 0 rfl rfl)
theorem dX17_init_1 : decode cX17_init 1 = .ok (.aload_n 1, 1) := dk_43 (dk_at dksX17_init_0 1 rfl rfl)
theorem dX17_init_2 : decode cX17_init 2 = .ok (.aload_n 2, 1) := dk_44 (dk_at dksX17_init_0 2 rfl rfl)
theorem dX17_init_3 : decode cX17_init 3 = .ok (.invokespecial 1, 3) := dk_183 0 1 (dk_at dksX17_init_0 3 rfl rfl)
theorem dX17_init_6 : decode cX17_init 6 = .ok (.return_, 1) := dk_177 (dk_at dksX17_init_0 6 rfl rfl)
theorem q135 : (Jvm.Cond.initialized "VowelChoir$Most") ∈ lw_all := lw_g (lw_at lw_m1 37 rfl) rfl
theorem q796 : (Jvm.Cond.selects "VowelChoir$Most" ({ cls := "VowelChoir$Two", name := "with", desc := "(II)I" } : Jvm.MethodName) ({ cls := "VowelChoir$Most", name := "with", desc := "(II)I" } : Jvm.MethodName)) ∈ lw_all := lw_g (lw_at lw_m3 218 rfl) rfl
theorem q797 : (Jvm.Cond.instanceMethod ({ cls := "VowelChoir$Most", name := "with", desc := "(II)I" } : Jvm.MethodName)) ∈ lw_all := lw_g (lw_at lw_m3 219 rfl) rfl
theorem q798 : (Jvm.Cond.code ({ cls := "VowelChoir$Most", name := "with", desc := "(II)I" } : Jvm.MethodName) prog_15_method_2_code (3 : Nat) (Option.some Jvm.ClassFile.FieldType.int)) ∈ lw_all := lw_g (lw_at lw_m3 220 rfl) rfl
theorem q799 : (Jvm.Cond.methodLink "VowelChoir$Most" (7 : Nat) ({ cls := "java/lang/Math", name := "max", desc := "(II)I" } : Jvm.MethodName)) ∈ lw_all := lw_g (lw_at lw_m3 221 rfl) rfl
theorem q810 : (Jvm.Cond.selects "VowelChoir$Most" ({ cls := "VowelChoir$Term", name := "of", desc := "([I)I" } : Jvm.MethodName) ({ cls := "VowelChoir$Two", name := "of", desc := "([I)I" } : Jvm.MethodName)) ∈ lw_all := lw_g (lw_at lw_m3 232 rfl) rfl
theorem q1217 : (Jvm.Cond.selects "VowelChoir$Most" ({ cls := "java/lang/Object", name := "getClass", desc := "()Ljava/lang/Class;" } : Jvm.MethodName) ({ cls := "java/lang/Object", name := "getClass", desc := "()Ljava/lang/Class;" } : Jvm.MethodName)) ∈ lw_all := lw_g (lw_at lw_m5 159 rfl) rfl
theorem q1390 : (Jvm.Cond.instantiable "VowelChoir$Most" (2 : Nat)) ∈ lw_all := lw_g (lw_at lw_m6 92 rfl) rfl
theorem q1392 : (Jvm.Cond.instanceMethod ({ cls := "VowelChoir$Most", name := "<init>", desc := "(LVowelChoir$Term;LVowelChoir$Term;)V" } : Jvm.MethodName)) ∈ lw_all := lw_g (lw_at lw_m6 94 rfl) rfl
theorem q1393 : (Jvm.Cond.code ({ cls := "VowelChoir$Most", name := "<init>", desc := "(LVowelChoir$Term;LVowelChoir$Term;)V" } : Jvm.MethodName) prog_15_method_1_code (3 : Nat) (Option.none : Option Jvm.ClassFile.FieldType)) ∈ lw_all := lw_g (lw_at lw_m6 95 rfl) rfl
theorem q1394 : (Jvm.Cond.methodLink "VowelChoir$Most" (1 : Nat) ({ cls := "VowelChoir$Two", name := "<init>", desc := "(LVowelChoir$Term;LVowelChoir$Term;)V" } : Jvm.MethodName)) ∈ lw_all := lw_g (lw_at lw_m6 96 rfl) rfl
theorem q1395 : (Jvm.Cond.laysFinal "VowelChoir$Most" "VowelChoir$Two" "a" "LVowelChoir$Term;") ∈ lw_all := lw_g (lw_at lw_m6 97 rfl) rfl
theorem q1396 : (Jvm.Cond.laysFinal "VowelChoir$Most" "VowelChoir$Two" "b" "LVowelChoir$Term;") ∈ lw_all := lw_g (lw_at lw_m6 98 rfl) rfl
theorem q1397 : (Jvm.Cond.superclass "VowelChoir$Most" "VowelChoir$Two") ∈ lw_all := lw_g (lw_at lw_m6 99 rfl) rfl
theorem q2653 : (Jvm.Cond.castable "VowelChoir$Most" "java/lang/Object") ∈ lw_tbl := lw_at lw_m11 155 rfl
theorem in_X17 : ∀ w ∈ wsX170, w ∈ lw_all := lw_in wsX170 [1395, 1396] (by decide +kernel) (by decide +kernel)
/-! VowelChoir$Times -/
set_option maxRecDepth 100000
def RX18 : String := "VowelChoir$Times"
def TX18 : u_T := fun k => match k with
  | 0 => ("VowelChoir$Two", "a", "LVowelChoir$Term;", true)
  | _ => ("VowelChoir$Two", "b", "LVowelChoir$Term;", true)
def tyX18 : Nat → FieldType := fun k => match k with
  | 0 => .object "VowelChoir$Term"
  | _ => .object "VowelChoir$Term"
abbrev wsX180 : List Cond := u_ws RX18 TX18 2
theorem nmX18 : ∀ a, a < 2 → ∀ b, b < 2 → a ≠ b → (TX18 a).2.1 ≠ (TX18 b).2.1 := by decide +kernel
theorem tyX18_ok : ∀ k, k < 2 → parseFieldDescriptor (TX18 k).2.2.1 = some (tyX18 k) := by decide +kernel
abbrev cX18_with : ByteArray := prog_26_method_2_code
def yX18_with : MethodName := ⟨RX18, "with", "(II)I"⟩
def dkwX18_with_0 : List UInt8 := [27, 28, 104, 172]
abbrev dktX18_with_0 : List UInt8 := dkwX18_with_0 ++ []
theorem dksX18_with_0 : cX18_with.data.toList.drop 0 = dktX18_with_0 := by decide +kernel
theorem dX18_with_0 : decode cX18_with 0 = .ok (.iload_n 1, 1) := dk_27 (dk_at dksX18_with_0 0 rfl rfl)
theorem dX18_with_1 : decode cX18_with 1 = .ok (.iload_n 2, 1) := dk_28 (dk_at dksX18_with_0 1 rfl rfl)
theorem dX18_with_2 : decode cX18_with 2 = .ok (.imul, 1) := dk_104 (dk_at dksX18_with_0 2 rfl rfl)
theorem dX18_with_3 : decode cX18_with 3 = .ok (.ireturn, 1) := dk_172 (dk_at dksX18_with_0 3 rfl rfl)
abbrev cX18_init : ByteArray := prog_26_method_1_code
def yX18_init : MethodName := ⟨RX18, "<init>", "(LVowelChoir$Term;LVowelChoir$Term;)V"⟩
def dkwX18_init_0 : List UInt8 := [42, 43, 44, 183, 0, 1, 177]
abbrev dktX18_init_0 : List UInt8 := dkwX18_init_0 ++ []
theorem dksX18_init_0 : cX18_init.data.toList.drop 0 = dktX18_init_0 := by decide +kernel
theorem dX18_init_0 : decode cX18_init 0 = .ok (.aload_n 0, 1) := dk_42 (dk_at dksX18_init_0 0 rfl rfl)
theorem dX18_init_1 : decode cX18_init 1 = .ok (.aload_n 1, 1) := dk_43 (dk_at dksX18_init_0 1 rfl rfl)
theorem dX18_init_2 : decode cX18_init 2 = .ok (.aload_n 2, 1) := dk_44 (dk_at dksX18_init_0 2 rfl rfl)
theorem dX18_init_3 : decode cX18_init 3 = .ok (.invokespecial 1, 3) := dk_183 0 1 (dk_at dksX18_init_0 3 rfl rfl)
theorem dX18_init_6 : decode cX18_init 6 = .ok (.return_, 1) := dk_177 (dk_at dksX18_init_0 6 rfl rfl)
theorem q136 : (Jvm.Cond.initialized "VowelChoir$Times") ∈ lw_all := lw_g (lw_at lw_m1 38 rfl) rfl
theorem q803 : (Jvm.Cond.selects "VowelChoir$Times" ({ cls := "VowelChoir$Two", name := "with", desc := "(II)I" } : Jvm.MethodName) ({ cls := "VowelChoir$Times", name := "with", desc := "(II)I" } : Jvm.MethodName)) ∈ lw_all := lw_g (lw_at lw_m3 225 rfl) rfl
theorem q804 : (Jvm.Cond.instanceMethod ({ cls := "VowelChoir$Times", name := "with", desc := "(II)I" } : Jvm.MethodName)) ∈ lw_all := lw_g (lw_at lw_m3 226 rfl) rfl
theorem q805 : (Jvm.Cond.code ({ cls := "VowelChoir$Times", name := "with", desc := "(II)I" } : Jvm.MethodName) prog_26_method_2_code (3 : Nat) (Option.some Jvm.ClassFile.FieldType.int)) ∈ lw_all := lw_g (lw_at lw_m3 227 rfl) rfl
theorem q813 : (Jvm.Cond.selects "VowelChoir$Times" ({ cls := "VowelChoir$Term", name := "of", desc := "([I)I" } : Jvm.MethodName) ({ cls := "VowelChoir$Two", name := "of", desc := "([I)I" } : Jvm.MethodName)) ∈ lw_all := lw_g (lw_at lw_m3 235 rfl) rfl
theorem q1225 : (Jvm.Cond.selects "VowelChoir$Times" ({ cls := "java/lang/Object", name := "getClass", desc := "()Ljava/lang/Class;" } : Jvm.MethodName) ({ cls := "java/lang/Object", name := "getClass", desc := "()Ljava/lang/Class;" } : Jvm.MethodName)) ∈ lw_all := lw_g (lw_at lw_m5 167 rfl) rfl
theorem q1402 : (Jvm.Cond.instantiable "VowelChoir$Times" (2 : Nat)) ∈ lw_all := lw_g (lw_at lw_m6 104 rfl) rfl
theorem q1404 : (Jvm.Cond.instanceMethod ({ cls := "VowelChoir$Times", name := "<init>", desc := "(LVowelChoir$Term;LVowelChoir$Term;)V" } : Jvm.MethodName)) ∈ lw_all := lw_g (lw_at lw_m6 106 rfl) rfl
theorem q1405 : (Jvm.Cond.code ({ cls := "VowelChoir$Times", name := "<init>", desc := "(LVowelChoir$Term;LVowelChoir$Term;)V" } : Jvm.MethodName) prog_26_method_1_code (3 : Nat) (Option.none : Option Jvm.ClassFile.FieldType)) ∈ lw_all := lw_g (lw_at lw_m6 107 rfl) rfl
theorem q1406 : (Jvm.Cond.methodLink "VowelChoir$Times" (1 : Nat) ({ cls := "VowelChoir$Two", name := "<init>", desc := "(LVowelChoir$Term;LVowelChoir$Term;)V" } : Jvm.MethodName)) ∈ lw_all := lw_g (lw_at lw_m6 108 rfl) rfl
theorem q1407 : (Jvm.Cond.laysFinal "VowelChoir$Times" "VowelChoir$Two" "a" "LVowelChoir$Term;") ∈ lw_all := lw_g (lw_at lw_m6 109 rfl) rfl
theorem q1408 : (Jvm.Cond.laysFinal "VowelChoir$Times" "VowelChoir$Two" "b" "LVowelChoir$Term;") ∈ lw_all := lw_g (lw_at lw_m6 110 rfl) rfl
theorem q1409 : (Jvm.Cond.superclass "VowelChoir$Times" "VowelChoir$Two") ∈ lw_all := lw_g (lw_at lw_m6 111 rfl) rfl
theorem q2654 : (Jvm.Cond.castable "VowelChoir$Times" "java/lang/Object") ∈ lw_tbl := lw_at lw_m11 156 rfl
theorem in_X18 : ∀ w ∈ wsX180, w ∈ lw_all := lw_in wsX180 [1407, 1408] (by decide +kernel) (by decide +kernel)
/-! VowelChoir$By -/
set_option maxRecDepth 100000
def RX19 : String := "VowelChoir$By"
def TX19 : u_T := fun k => match k with
  | 0 => ("VowelChoir$Two", "a", "LVowelChoir$Term;", true)
  | _ => ("VowelChoir$Two", "b", "LVowelChoir$Term;", true)
def tyX19 : Nat → FieldType := fun k => match k with
  | 0 => .object "VowelChoir$Term"
  | _ => .object "VowelChoir$Term"
abbrev wsX190 : List Cond := u_ws RX19 TX19 2
theorem nmX19 : ∀ a, a < 2 → ∀ b, b < 2 → a ≠ b → (TX19 a).2.1 ≠ (TX19 b).2.1 := by decide +kernel
theorem tyX19_ok : ∀ k, k < 2 → parseFieldDescriptor (TX19 k).2.2.1 = some (tyX19 k) := by decide +kernel
abbrev cX19_with : ByteArray := prog_5_method_2_code
def yX19_with : MethodName := ⟨RX19, "with", "(II)I"⟩
def dkwX19_with_0 : List UInt8 := [28, 154, 0, 7, 3, 167, 0, 6, 27, 28, 108, 172]
abbrev dktX19_with_0 : List UInt8 := dkwX19_with_0 ++ []
theorem dksX19_with_0 : cX19_with.data.toList.drop 0 = dktX19_with_0 := by decide +kernel
theorem dX19_with_0 : decode cX19_with 0 = .ok (.iload_n 2, 1) := dk_28 (dk_at dksX19_with_0 0 rfl rfl)
theorem dX19_with_1 : decode cX19_with 1 = .ok (.ifCond .ne 7, 3) := dk_154 0 7 (dk_at dksX19_with_0 1 rfl rfl)
theorem dX19_with_4 : decode cX19_with 4 = .ok (.iconst 0, 1) := dk_3 (dk_at dksX19_with_0 4 rfl rfl)
theorem dX19_with_5 : decode cX19_with 5 = .ok (.goto 6, 3) := dk_167 0 6 (dk_at dksX19_with_0 5 rfl rfl)
theorem dX19_with_8 : decode cX19_with 8 = .ok (.iload_n 1, 1) := dk_27 (dk_at dksX19_with_0 8 rfl rfl)
theorem dX19_with_9 : decode cX19_with 9 = .ok (.iload_n 2, 1) := dk_28 (dk_at dksX19_with_0 9 rfl rfl)
theorem dX19_with_10 : decode cX19_with 10 = .ok (.idiv, 1) := dk_108 (dk_at dksX19_with_0 10 rfl rfl)
theorem dX19_with_11 : decode cX19_with 11 = .ok (.ireturn, 1) := dk_172 (dk_at dksX19_with_0 11 rfl rfl)
abbrev cX19_init : ByteArray := prog_5_method_1_code
def yX19_init : MethodName := ⟨RX19, "<init>", "(LVowelChoir$Term;LVowelChoir$Term;)V"⟩
def dkwX19_init_0 : List UInt8 := [42, 43, 44, 183, 0, 1, 177]
abbrev dktX19_init_0 : List UInt8 := dkwX19_init_0 ++ []
theorem dksX19_init_0 : cX19_init.data.toList.drop 0 = dktX19_init_0 := by decide +kernel
theorem dX19_init_0 : decode cX19_init 0 = .ok (.aload_n 0, 1) := dk_42 (dk_at dksX19_init_0 0 rfl rfl)
theorem dX19_init_1 : decode cX19_init 1 = .ok (.aload_n 1, 1) := dk_43 (dk_at dksX19_init_0 1 rfl rfl)
theorem dX19_init_2 : decode cX19_init 2 = .ok (.aload_n 2, 1) := dk_44 (dk_at dksX19_init_0 2 rfl rfl)
theorem dX19_init_3 : decode cX19_init 3 = .ok (.invokespecial 1, 3) := dk_183 0 1 (dk_at dksX19_init_0 3 rfl rfl)
theorem dX19_init_6 : decode cX19_init 6 = .ok (.return_, 1) := dk_177 (dk_at dksX19_init_0 6 rfl rfl)
theorem q137 : (Jvm.Cond.initialized "VowelChoir$By") ∈ lw_all := lw_g (lw_at lw_m1 39 rfl) rfl
theorem q772 : (Jvm.Cond.selects "VowelChoir$By" ({ cls := "VowelChoir$Term", name := "of", desc := "([I)I" } : Jvm.MethodName) ({ cls := "VowelChoir$Two", name := "of", desc := "([I)I" } : Jvm.MethodName)) ∈ lw_all := lw_g (lw_at lw_m3 194 rfl) rfl
theorem q783 : (Jvm.Cond.selects "VowelChoir$By" ({ cls := "VowelChoir$Two", name := "with", desc := "(II)I" } : Jvm.MethodName) ({ cls := "VowelChoir$By", name := "with", desc := "(II)I" } : Jvm.MethodName)) ∈ lw_all := lw_g (lw_at lw_m3 205 rfl) rfl
theorem q784 : (Jvm.Cond.instanceMethod ({ cls := "VowelChoir$By", name := "with", desc := "(II)I" } : Jvm.MethodName)) ∈ lw_all := lw_g (lw_at lw_m3 206 rfl) rfl
theorem q785 : (Jvm.Cond.code ({ cls := "VowelChoir$By", name := "with", desc := "(II)I" } : Jvm.MethodName) prog_5_method_2_code (3 : Nat) (Option.some Jvm.ClassFile.FieldType.int)) ∈ lw_all := lw_g (lw_at lw_m3 207 rfl) rfl
theorem q1207 : (Jvm.Cond.selects "VowelChoir$By" ({ cls := "java/lang/Object", name := "getClass", desc := "()Ljava/lang/Class;" } : Jvm.MethodName) ({ cls := "java/lang/Object", name := "getClass", desc := "()Ljava/lang/Class;" } : Jvm.MethodName)) ∈ lw_all := lw_g (lw_at lw_m5 149 rfl) rfl
theorem q1411 : (Jvm.Cond.instantiable "VowelChoir$By" (2 : Nat)) ∈ lw_all := lw_g (lw_at lw_m6 113 rfl) rfl
theorem q1413 : (Jvm.Cond.instanceMethod ({ cls := "VowelChoir$By", name := "<init>", desc := "(LVowelChoir$Term;LVowelChoir$Term;)V" } : Jvm.MethodName)) ∈ lw_all := lw_g (lw_at lw_m6 115 rfl) rfl
theorem q1414 : (Jvm.Cond.code ({ cls := "VowelChoir$By", name := "<init>", desc := "(LVowelChoir$Term;LVowelChoir$Term;)V" } : Jvm.MethodName) prog_5_method_1_code (3 : Nat) (Option.none : Option Jvm.ClassFile.FieldType)) ∈ lw_all := lw_g (lw_at lw_m6 116 rfl) rfl
theorem q1415 : (Jvm.Cond.methodLink "VowelChoir$By" (1 : Nat) ({ cls := "VowelChoir$Two", name := "<init>", desc := "(LVowelChoir$Term;LVowelChoir$Term;)V" } : Jvm.MethodName)) ∈ lw_all := lw_g (lw_at lw_m6 117 rfl) rfl
theorem q1416 : (Jvm.Cond.laysFinal "VowelChoir$By" "VowelChoir$Two" "a" "LVowelChoir$Term;") ∈ lw_all := lw_g (lw_at lw_m6 118 rfl) rfl
theorem q1417 : (Jvm.Cond.laysFinal "VowelChoir$By" "VowelChoir$Two" "b" "LVowelChoir$Term;") ∈ lw_all := lw_g (lw_at lw_m6 119 rfl) rfl
theorem q1418 : (Jvm.Cond.superclass "VowelChoir$By" "VowelChoir$Two") ∈ lw_all := lw_g (lw_at lw_m6 120 rfl) rfl
theorem q2655 : (Jvm.Cond.castable "VowelChoir$By" "java/lang/Object") ∈ lw_tbl := lw_at lw_m11 157 rfl
theorem in_X19 : ∀ w ∈ wsX190, w ∈ lw_all := lw_in wsX190 [1416, 1417] (by decide +kernel) (by decide +kernel)
/-! VowelChoir$Told -/
set_option maxRecDepth 100000
def RX2 : String := "VowelChoir$Told"
def TX2 : u_T := fun k => match k with
  | 0 => ("VowelChoir$Told", "singers", "Ljava/util/ArrayList;", true)
  | 1 => ("VowelChoir$Told", "notes", "Ljava/util/ArrayList;", true)
  | 2 => ("VowelChoir$Told", "likes", "Ljava/util/ArrayList;", true)
  | 3 => ("VowelChoir$Told", "rest", "I", false)
  | _ => ("VowelChoir$Told", "clauses", "I", false)
def tyX2 : Nat → FieldType := fun k => match k with
  | 0 => .object "java/util/ArrayList"
  | 1 => .object "java/util/ArrayList"
  | 2 => .object "java/util/ArrayList"
  | 3 => .int
  | _ => .int
abbrev wsX20 : List Cond := u_ws RX2 TX2 5
theorem nmX2 : ∀ a, a < 5 → ∀ b, b < 5 → a ≠ b → (TX2 a).2.1 ≠ (TX2 b).2.1 := by decide +kernel
theorem tyX2_ok : ∀ k, k < 5 → parseFieldDescriptor (TX2 k).2.2.1 = some (tyX2 k) := by decide +kernel
abbrev cX2_init : ByteArray := prog_27_method_1_code
def yX2_init : MethodName := ⟨RX2, "<init>", "()V"⟩
def dkwX2_init_1 : List UInt8 := [183, 0, 9, 181, 0, 18, 42, 187, 0, 7, 89, 5, 183, 0, 9, 181, 0, 21, 42, 8, 181, 0, 24, 177]
abbrev dktX2_init_1 : List UInt8 := dkwX2_init_1 ++ []
def dkwX2_init_0 : List UInt8 := [42, 183, 0, 1, 42, 187, 0, 7, 89, 5, 183, 0, 9, 181, 0, 12, 42, 187, 0, 7, 89, 7]
abbrev dktX2_init_0 : List UInt8 := dkwX2_init_0 ++ dktX2_init_1
theorem dksX2_init_0 : cX2_init.data.toList.drop 0 = dktX2_init_0 := by decide +kernel
theorem dksX2_init_1 : cX2_init.data.toList.drop 22 = dktX2_init_1 := dk_seg dksX2_init_0 22 rfl rfl
theorem dX2_init_0 : decode cX2_init 0 = .ok (.aload_n 0, 1) := dk_42 (dk_at dksX2_init_0 0 rfl rfl)
theorem dX2_init_1 : decode cX2_init 1 = .ok (.invokespecial 1, 3) := dk_183 0 1 (dk_at dksX2_init_0 1 rfl rfl)
theorem dX2_init_4 : decode cX2_init 4 = .ok (.aload_n 0, 1) := dk_42 (dk_at dksX2_init_0 4 rfl rfl)
theorem dX2_init_5 : decode cX2_init 5 = .ok (.new 7, 3) := dk_187 0 7 (dk_at dksX2_init_0 5 rfl rfl)
theorem dX2_init_8 : decode cX2_init 8 = .ok (.dup, 1) := dk_89 (dk_at dksX2_init_0 8 rfl rfl)
theorem dX2_init_9 : decode cX2_init 9 = .ok (.iconst 2, 1) := dk_5 (dk_at dksX2_init_0 9 rfl rfl)
theorem dX2_init_10 : decode cX2_init 10 = .ok (.invokespecial 9, 3) := dk_183 0 9 (dk_at dksX2_init_0 10 rfl rfl)
theorem dX2_init_13 : decode cX2_init 13 = .ok (.putfield 12, 3) := dk_181 0 12 (dk_at dksX2_init_0 13 rfl rfl)
theorem dX2_init_16 : decode cX2_init 16 = .ok (.aload_n 0, 1) := dk_42 (dk_at dksX2_init_0 16 rfl rfl)
theorem dX2_init_17 : decode cX2_init 17 = .ok (.new 7, 3) := dk_187 0 7 (dk_at dksX2_init_0 17 rfl rfl)
theorem dX2_init_20 : decode cX2_init 20 = .ok (.dup, 1) := dk_89 (dk_at dksX2_init_0 20 rfl rfl)
theorem dX2_init_21 : decode cX2_init 21 = .ok (.iconst 4, 1) := dk_7 (dk_at dksX2_init_0 21 rfl rfl)
theorem dX2_init_22 : decode cX2_init 22 = .ok (.invokespecial 9, 3) := dk_183 0 9 (dk_at dksX2_init_1 0 rfl rfl)
theorem dX2_init_25 : decode cX2_init 25 = .ok (.putfield 18, 3) := dk_181 0 18 (dk_at dksX2_init_1 3 rfl rfl)
theorem dX2_init_28 : decode cX2_init 28 = .ok (.aload_n 0, 1) := dk_42 (dk_at dksX2_init_1 6 rfl rfl)
theorem dX2_init_29 : decode cX2_init 29 = .ok (.new 7, 3) := dk_187 0 7 (dk_at dksX2_init_1 7 rfl rfl)
theorem dX2_init_32 : decode cX2_init 32 = .ok (.dup, 1) := dk_89 (dk_at dksX2_init_1 10 rfl rfl)
theorem dX2_init_33 : decode cX2_init 33 = .ok (.iconst 2, 1) := dk_5 (dk_at dksX2_init_1 11 rfl rfl)
theorem dX2_init_34 : decode cX2_init 34 = .ok (.invokespecial 9, 3) := dk_183 0 9 (dk_at dksX2_init_1 12 rfl rfl)
theorem dX2_init_37 : decode cX2_init 37 = .ok (.putfield 21, 3) := dk_181 0 21 (dk_at dksX2_init_1 15 rfl rfl)
theorem dX2_init_40 : decode cX2_init 40 = .ok (.aload_n 0, 1) := dk_42 (dk_at dksX2_init_1 18 rfl rfl)
theorem dX2_init_41 : decode cX2_init 41 = .ok (.iconst 5, 1) := dk_8 (dk_at dksX2_init_1 19 rfl rfl)
theorem dX2_init_42 : decode cX2_init 42 = .ok (.putfield 24, 3) := dk_181 0 24 (dk_at dksX2_init_1 20 rfl rfl)
theorem dX2_init_45 : decode cX2_init 45 = .ok (.return_, 1) := dk_177 (dk_at dksX2_init_1 23 rfl rfl)
theorem q100 : (Jvm.Cond.initialized "VowelChoir$Told") ∈ lw_all := lw_g (lw_at lw_m1 2 rfl) rfl
theorem q162 : (Jvm.Cond.instantiable "VowelChoir$Told" (5 : Nat)) ∈ lw_all := lw_g (lw_at lw_m1 64 rfl) rfl
theorem q164 : (Jvm.Cond.instanceMethod ({ cls := "VowelChoir$Told", name := "<init>", desc := "()V" } : Jvm.MethodName)) ∈ lw_all := lw_g (lw_at lw_m1 66 rfl) rfl
theorem q165 : (Jvm.Cond.code ({ cls := "VowelChoir$Told", name := "<init>", desc := "()V" } : Jvm.MethodName) prog_27_method_1_code (1 : Nat) (Option.none : Option Jvm.ClassFile.FieldType)) ∈ lw_all := lw_g (lw_at lw_m1 67 rfl) rfl
theorem q166 : (Jvm.Cond.methodLink "VowelChoir$Told" (1 : Nat) ({ cls := "java/lang/Object", name := "<init>", desc := "()V" } : Jvm.MethodName)) ∈ lw_all := lw_g (lw_at lw_m1 68 rfl) rfl
theorem q167 : (Jvm.Cond.classLink "VowelChoir$Told" (7 : Nat) "java/util/ArrayList") ∈ lw_all := lw_g (lw_at lw_m1 69 rfl) rfl
theorem q169 : (Jvm.Cond.methodLink "VowelChoir$Told" (9 : Nat) ({ cls := "java/util/ArrayList", name := "<init>", desc := "(I)V" } : Jvm.MethodName)) ∈ lw_all := lw_g (lw_at lw_m1 71 rfl) rfl
theorem q509 : (Jvm.Cond.fieldLink "VowelChoir$Told" (12 : Nat) "VowelChoir$Told" "singers" "Ljava/util/ArrayList;") ∈ lw_all := lw_g (lw_at lw_m2 171 rfl) rfl
theorem q513 : (Jvm.Cond.fieldLink "VowelChoir$Told" (18 : Nat) "VowelChoir$Told" "notes" "Ljava/util/ArrayList;") ∈ lw_all := lw_g (lw_at lw_m2 175 rfl) rfl
theorem q517 : (Jvm.Cond.fieldLink "VowelChoir$Told" (21 : Nat) "VowelChoir$Told" "likes" "Ljava/util/ArrayList;") ∈ lw_all := lw_g (lw_at lw_m2 179 rfl) rfl
theorem q520 : (Jvm.Cond.fieldLink "VowelChoir$Told" (24 : Nat) "VowelChoir$Told" "rest" "I") ∈ lw_all := lw_g (lw_at lw_m2 182 rfl) rfl
theorem q524 : (Jvm.Cond.laysFinal "VowelChoir$Told" "VowelChoir$Told" "singers" "Ljava/util/ArrayList;") ∈ lw_all := lw_g (lw_at lw_m2 186 rfl) rfl
theorem q525 : (Jvm.Cond.soleField "VowelChoir$Told" "singers") ∈ lw_all := lw_g (lw_at lw_m2 187 rfl) rfl
theorem q526 : (Jvm.Cond.laysFinal "VowelChoir$Told" "VowelChoir$Told" "notes" "Ljava/util/ArrayList;") ∈ lw_all := lw_g (lw_at lw_m2 188 rfl) rfl
theorem q527 : (Jvm.Cond.soleField "VowelChoir$Told" "notes") ∈ lw_all := lw_g (lw_at lw_m2 189 rfl) rfl
theorem q528 : (Jvm.Cond.laysFinal "VowelChoir$Told" "VowelChoir$Told" "likes" "Ljava/util/ArrayList;") ∈ lw_all := lw_g (lw_at lw_m2 190 rfl) rfl
theorem q529 : (Jvm.Cond.soleField "VowelChoir$Told" "likes") ∈ lw_all := lw_g (lw_at lw_m2 191 rfl) rfl
theorem q530 : (Jvm.Cond.lays "VowelChoir$Told" "VowelChoir$Told" "rest" "I") ∈ lw_all := lw_g (lw_at lw_m2 192 rfl) rfl
theorem q531 : (Jvm.Cond.soleField "VowelChoir$Told" "rest") ∈ lw_all := lw_g (lw_at lw_m2 193 rfl) rfl
theorem q532 : (Jvm.Cond.lays "VowelChoir$Told" "VowelChoir$Told" "clauses" "I") ∈ lw_all := lw_g (lw_at lw_m2 194 rfl) rfl
theorem q533 : (Jvm.Cond.soleField "VowelChoir$Told" "clauses") ∈ lw_all := lw_g (lw_at lw_m2 195 rfl) rfl
theorem q534 : (Jvm.Cond.superclass "VowelChoir$Told" "java/lang/Object") ∈ lw_all := lw_g (lw_at lw_m2 196 rfl) rfl
theorem q1226 : (Jvm.Cond.selects "VowelChoir$Told" ({ cls := "java/lang/Object", name := "getClass", desc := "()Ljava/lang/Class;" } : Jvm.MethodName) ({ cls := "java/lang/Object", name := "getClass", desc := "()Ljava/lang/Class;" } : Jvm.MethodName)) ∈ lw_all := lw_g (lw_at lw_m5 168 rfl) rfl
theorem q2637 : (Jvm.Cond.castable "VowelChoir$Told" "java/lang/Object") ∈ lw_tbl := lw_at lw_m11 139 rfl
theorem in_X2 : ∀ w ∈ wsX20, w ∈ lw_all := lw_in wsX20 [524, 526, 528, 530, 532] (by decide +kernel) (by decide +kernel)
/-! VowelChoir$Leaves -/
set_option maxRecDepth 100000
def RX20 : String := "VowelChoir$Leaves"
def TX20 : u_T := fun k => match k with
  | 0 => ("VowelChoir$Two", "a", "LVowelChoir$Term;", true)
  | _ => ("VowelChoir$Two", "b", "LVowelChoir$Term;", true)
def tyX20 : Nat → FieldType := fun k => match k with
  | 0 => .object "VowelChoir$Term"
  | _ => .object "VowelChoir$Term"
abbrev wsX200 : List Cond := u_ws RX20 TX20 2
theorem nmX20 : ∀ a, a < 2 → ∀ b, b < 2 → a ≠ b → (TX20 a).2.1 ≠ (TX20 b).2.1 := by decide +kernel
theorem tyX20_ok : ∀ k, k < 2 → parseFieldDescriptor (TX20 k).2.2.1 = some (tyX20 k) := by decide +kernel
abbrev cX20_with : ByteArray := prog_12_method_2_code
def yX20_with : MethodName := ⟨RX20, "with", "(II)I"⟩
def dkwX20_with_0 : List UInt8 := [28, 154, 0, 7, 3, 167, 0, 6, 27, 28, 112, 172]
abbrev dktX20_with_0 : List UInt8 := dkwX20_with_0 ++ []
theorem dksX20_with_0 : cX20_with.data.toList.drop 0 = dktX20_with_0 := by decide +kernel
theorem dX20_with_0 : decode cX20_with 0 = .ok (.iload_n 2, 1) := dk_28 (dk_at dksX20_with_0 0 rfl rfl)
theorem dX20_with_1 : decode cX20_with 1 = .ok (.ifCond .ne 7, 3) := dk_154 0 7 (dk_at dksX20_with_0 1 rfl rfl)
theorem dX20_with_4 : decode cX20_with 4 = .ok (.iconst 0, 1) := dk_3 (dk_at dksX20_with_0 4 rfl rfl)
theorem dX20_with_5 : decode cX20_with 5 = .ok (.goto 6, 3) := dk_167 0 6 (dk_at dksX20_with_0 5 rfl rfl)
theorem dX20_with_8 : decode cX20_with 8 = .ok (.iload_n 1, 1) := dk_27 (dk_at dksX20_with_0 8 rfl rfl)
theorem dX20_with_9 : decode cX20_with 9 = .ok (.iload_n 2, 1) := dk_28 (dk_at dksX20_with_0 9 rfl rfl)
theorem dX20_with_10 : decode cX20_with 10 = .ok (.irem, 1) := dk_112 (dk_at dksX20_with_0 10 rfl rfl)
theorem dX20_with_11 : decode cX20_with 11 = .ok (.ireturn, 1) := dk_172 (dk_at dksX20_with_0 11 rfl rfl)
abbrev cX20_init : ByteArray := prog_12_method_1_code
def yX20_init : MethodName := ⟨RX20, "<init>", "(LVowelChoir$Term;LVowelChoir$Term;)V"⟩
def dkwX20_init_0 : List UInt8 := [42, 43, 44, 183, 0, 1, 177]
abbrev dktX20_init_0 : List UInt8 := dkwX20_init_0 ++ []
theorem dksX20_init_0 : cX20_init.data.toList.drop 0 = dktX20_init_0 := by decide +kernel
theorem dX20_init_0 : decode cX20_init 0 = .ok (.aload_n 0, 1) := dk_42 (dk_at dksX20_init_0 0 rfl rfl)
theorem dX20_init_1 : decode cX20_init 1 = .ok (.aload_n 1, 1) := dk_43 (dk_at dksX20_init_0 1 rfl rfl)
theorem dX20_init_2 : decode cX20_init 2 = .ok (.aload_n 2, 1) := dk_44 (dk_at dksX20_init_0 2 rfl rfl)
theorem dX20_init_3 : decode cX20_init 3 = .ok (.invokespecial 1, 3) := dk_183 0 1 (dk_at dksX20_init_0 3 rfl rfl)
theorem dX20_init_6 : decode cX20_init 6 = .ok (.return_, 1) := dk_177 (dk_at dksX20_init_0 6 rfl rfl)
theorem q138 : (Jvm.Cond.initialized "VowelChoir$Leaves") ∈ lw_all := lw_g (lw_at lw_m1 40 rfl) rfl
theorem q790 : (Jvm.Cond.selects "VowelChoir$Leaves" ({ cls := "VowelChoir$Two", name := "with", desc := "(II)I" } : Jvm.MethodName) ({ cls := "VowelChoir$Leaves", name := "with", desc := "(II)I" } : Jvm.MethodName)) ∈ lw_all := lw_g (lw_at lw_m3 212 rfl) rfl
theorem q791 : (Jvm.Cond.instanceMethod ({ cls := "VowelChoir$Leaves", name := "with", desc := "(II)I" } : Jvm.MethodName)) ∈ lw_all := lw_g (lw_at lw_m3 213 rfl) rfl
theorem q792 : (Jvm.Cond.code ({ cls := "VowelChoir$Leaves", name := "with", desc := "(II)I" } : Jvm.MethodName) prog_12_method_2_code (3 : Nat) (Option.some Jvm.ClassFile.FieldType.int)) ∈ lw_all := lw_g (lw_at lw_m3 214 rfl) rfl
theorem q808 : (Jvm.Cond.selects "VowelChoir$Leaves" ({ cls := "VowelChoir$Term", name := "of", desc := "([I)I" } : Jvm.MethodName) ({ cls := "VowelChoir$Two", name := "of", desc := "([I)I" } : Jvm.MethodName)) ∈ lw_all := lw_g (lw_at lw_m3 230 rfl) rfl
theorem q1214 : (Jvm.Cond.selects "VowelChoir$Leaves" ({ cls := "java/lang/Object", name := "getClass", desc := "()Ljava/lang/Class;" } : Jvm.MethodName) ({ cls := "java/lang/Object", name := "getClass", desc := "()Ljava/lang/Class;" } : Jvm.MethodName)) ∈ lw_all := lw_g (lw_at lw_m5 156 rfl) rfl
theorem q1420 : (Jvm.Cond.instantiable "VowelChoir$Leaves" (2 : Nat)) ∈ lw_all := lw_g (lw_at lw_m6 122 rfl) rfl
theorem q1422 : (Jvm.Cond.instanceMethod ({ cls := "VowelChoir$Leaves", name := "<init>", desc := "(LVowelChoir$Term;LVowelChoir$Term;)V" } : Jvm.MethodName)) ∈ lw_all := lw_g (lw_at lw_m6 124 rfl) rfl
theorem q1423 : (Jvm.Cond.code ({ cls := "VowelChoir$Leaves", name := "<init>", desc := "(LVowelChoir$Term;LVowelChoir$Term;)V" } : Jvm.MethodName) prog_12_method_1_code (3 : Nat) (Option.none : Option Jvm.ClassFile.FieldType)) ∈ lw_all := lw_g (lw_at lw_m6 125 rfl) rfl
theorem q1424 : (Jvm.Cond.methodLink "VowelChoir$Leaves" (1 : Nat) ({ cls := "VowelChoir$Two", name := "<init>", desc := "(LVowelChoir$Term;LVowelChoir$Term;)V" } : Jvm.MethodName)) ∈ lw_all := lw_g (lw_at lw_m6 126 rfl) rfl
theorem q1425 : (Jvm.Cond.laysFinal "VowelChoir$Leaves" "VowelChoir$Two" "a" "LVowelChoir$Term;") ∈ lw_all := lw_g (lw_at lw_m6 127 rfl) rfl
theorem q1426 : (Jvm.Cond.laysFinal "VowelChoir$Leaves" "VowelChoir$Two" "b" "LVowelChoir$Term;") ∈ lw_all := lw_g (lw_at lw_m6 128 rfl) rfl
theorem q1427 : (Jvm.Cond.superclass "VowelChoir$Leaves" "VowelChoir$Two") ∈ lw_all := lw_g (lw_at lw_m6 129 rfl) rfl
theorem q2656 : (Jvm.Cond.castable "VowelChoir$Leaves" "java/lang/Object") ∈ lw_tbl := lw_at lw_m11 158 rfl
theorem in_X20 : ∀ w ∈ wsX200, w ∈ lw_all := lw_in wsX200 [1425, 1426] (by decide +kernel) (by decide +kernel)
/-! VowelChoir$Plus -/
set_option maxRecDepth 100000
def RX21 : String := "VowelChoir$Plus"
def TX21 : u_T := fun k => match k with
  | 0 => ("VowelChoir$Two", "a", "LVowelChoir$Term;", true)
  | _ => ("VowelChoir$Two", "b", "LVowelChoir$Term;", true)
def tyX21 : Nat → FieldType := fun k => match k with
  | 0 => .object "VowelChoir$Term"
  | _ => .object "VowelChoir$Term"
abbrev wsX210 : List Cond := u_ws RX21 TX21 2
theorem nmX21 : ∀ a, a < 2 → ∀ b, b < 2 → a ≠ b → (TX21 a).2.1 ≠ (TX21 b).2.1 := by decide +kernel
theorem tyX21_ok : ∀ k, k < 2 → parseFieldDescriptor (TX21 k).2.2.1 = some (tyX21 k) := by decide +kernel
abbrev cX21_with : ByteArray := prog_19_method_2_code
def yX21_with : MethodName := ⟨RX21, "with", "(II)I"⟩
def dkwX21_with_0 : List UInt8 := [27, 28, 96, 172]
abbrev dktX21_with_0 : List UInt8 := dkwX21_with_0 ++ []
theorem dksX21_with_0 : cX21_with.data.toList.drop 0 = dktX21_with_0 := by decide +kernel
theorem dX21_with_0 : decode cX21_with 0 = .ok (.iload_n 1, 1) := dk_27 (dk_at dksX21_with_0 0 rfl rfl)
theorem dX21_with_1 : decode cX21_with 1 = .ok (.iload_n 2, 1) := dk_28 (dk_at dksX21_with_0 1 rfl rfl)
theorem dX21_with_2 : decode cX21_with 2 = .ok (.iadd, 1) := dk_96 (dk_at dksX21_with_0 2 rfl rfl)
theorem dX21_with_3 : decode cX21_with 3 = .ok (.ireturn, 1) := dk_172 (dk_at dksX21_with_0 3 rfl rfl)
abbrev cX21_init : ByteArray := prog_19_method_1_code
def yX21_init : MethodName := ⟨RX21, "<init>", "(LVowelChoir$Term;LVowelChoir$Term;)V"⟩
def dkwX21_init_0 : List UInt8 := [42, 43, 44, 183, 0, 1, 177]
abbrev dktX21_init_0 : List UInt8 := dkwX21_init_0 ++ []
theorem dksX21_init_0 : cX21_init.data.toList.drop 0 = dktX21_init_0 := by decide +kernel
theorem dX21_init_0 : decode cX21_init 0 = .ok (.aload_n 0, 1) := dk_42 (dk_at dksX21_init_0 0 rfl rfl)
theorem dX21_init_1 : decode cX21_init 1 = .ok (.aload_n 1, 1) := dk_43 (dk_at dksX21_init_0 1 rfl rfl)
theorem dX21_init_2 : decode cX21_init 2 = .ok (.aload_n 2, 1) := dk_44 (dk_at dksX21_init_0 2 rfl rfl)
theorem dX21_init_3 : decode cX21_init 3 = .ok (.invokespecial 1, 3) := dk_183 0 1 (dk_at dksX21_init_0 3 rfl rfl)
theorem dX21_init_6 : decode cX21_init 6 = .ok (.return_, 1) := dk_177 (dk_at dksX21_init_0 6 rfl rfl)
theorem q139 : (Jvm.Cond.initialized "VowelChoir$Plus") ∈ lw_all := lw_g (lw_at lw_m1 41 rfl) rfl
theorem q800 : (Jvm.Cond.selects "VowelChoir$Plus" ({ cls := "VowelChoir$Two", name := "with", desc := "(II)I" } : Jvm.MethodName) ({ cls := "VowelChoir$Plus", name := "with", desc := "(II)I" } : Jvm.MethodName)) ∈ lw_all := lw_g (lw_at lw_m3 222 rfl) rfl
theorem q801 : (Jvm.Cond.instanceMethod ({ cls := "VowelChoir$Plus", name := "with", desc := "(II)I" } : Jvm.MethodName)) ∈ lw_all := lw_g (lw_at lw_m3 223 rfl) rfl
theorem q802 : (Jvm.Cond.code ({ cls := "VowelChoir$Plus", name := "with", desc := "(II)I" } : Jvm.MethodName) prog_19_method_2_code (3 : Nat) (Option.some Jvm.ClassFile.FieldType.int)) ∈ lw_all := lw_g (lw_at lw_m3 224 rfl) rfl
theorem q812 : (Jvm.Cond.selects "VowelChoir$Plus" ({ cls := "VowelChoir$Term", name := "of", desc := "([I)I" } : Jvm.MethodName) ({ cls := "VowelChoir$Two", name := "of", desc := "([I)I" } : Jvm.MethodName)) ∈ lw_all := lw_g (lw_at lw_m3 234 rfl) rfl
theorem q1221 : (Jvm.Cond.selects "VowelChoir$Plus" ({ cls := "java/lang/Object", name := "getClass", desc := "()Ljava/lang/Class;" } : Jvm.MethodName) ({ cls := "java/lang/Object", name := "getClass", desc := "()Ljava/lang/Class;" } : Jvm.MethodName)) ∈ lw_all := lw_g (lw_at lw_m5 163 rfl) rfl
theorem q1429 : (Jvm.Cond.instantiable "VowelChoir$Plus" (2 : Nat)) ∈ lw_all := lw_g (lw_at lw_m6 131 rfl) rfl
theorem q1431 : (Jvm.Cond.instanceMethod ({ cls := "VowelChoir$Plus", name := "<init>", desc := "(LVowelChoir$Term;LVowelChoir$Term;)V" } : Jvm.MethodName)) ∈ lw_all := lw_g (lw_at lw_m6 133 rfl) rfl
theorem q1432 : (Jvm.Cond.code ({ cls := "VowelChoir$Plus", name := "<init>", desc := "(LVowelChoir$Term;LVowelChoir$Term;)V" } : Jvm.MethodName) prog_19_method_1_code (3 : Nat) (Option.none : Option Jvm.ClassFile.FieldType)) ∈ lw_all := lw_g (lw_at lw_m6 134 rfl) rfl
theorem q1433 : (Jvm.Cond.methodLink "VowelChoir$Plus" (1 : Nat) ({ cls := "VowelChoir$Two", name := "<init>", desc := "(LVowelChoir$Term;LVowelChoir$Term;)V" } : Jvm.MethodName)) ∈ lw_all := lw_g (lw_at lw_m6 135 rfl) rfl
theorem q1434 : (Jvm.Cond.laysFinal "VowelChoir$Plus" "VowelChoir$Two" "a" "LVowelChoir$Term;") ∈ lw_all := lw_g (lw_at lw_m6 136 rfl) rfl
theorem q1435 : (Jvm.Cond.laysFinal "VowelChoir$Plus" "VowelChoir$Two" "b" "LVowelChoir$Term;") ∈ lw_all := lw_g (lw_at lw_m6 137 rfl) rfl
theorem q1436 : (Jvm.Cond.superclass "VowelChoir$Plus" "VowelChoir$Two") ∈ lw_all := lw_g (lw_at lw_m6 138 rfl) rfl
theorem q2657 : (Jvm.Cond.castable "VowelChoir$Plus" "java/lang/Object") ∈ lw_tbl := lw_at lw_m11 159 rfl
theorem in_X21 : ∀ w ∈ wsX210, w ∈ lw_all := lw_in wsX210 [1434, 1435] (by decide +kernel) (by decide +kernel)
/-! VowelChoir$Minus -/
set_option maxRecDepth 100000
def RX22 : String := "VowelChoir$Minus"
def TX22 : u_T := fun k => match k with
  | 0 => ("VowelChoir$Two", "a", "LVowelChoir$Term;", true)
  | _ => ("VowelChoir$Two", "b", "LVowelChoir$Term;", true)
def tyX22 : Nat → FieldType := fun k => match k with
  | 0 => .object "VowelChoir$Term"
  | _ => .object "VowelChoir$Term"
abbrev wsX220 : List Cond := u_ws RX22 TX22 2
theorem nmX22 : ∀ a, a < 2 → ∀ b, b < 2 → a ≠ b → (TX22 a).2.1 ≠ (TX22 b).2.1 := by decide +kernel
theorem tyX22_ok : ∀ k, k < 2 → parseFieldDescriptor (TX22 k).2.2.1 = some (tyX22 k) := by decide +kernel
abbrev cX22_with : ByteArray := prog_14_method_2_code
def yX22_with : MethodName := ⟨RX22, "with", "(II)I"⟩
def dkwX22_with_0 : List UInt8 := [27, 28, 100, 172]
abbrev dktX22_with_0 : List UInt8 := dkwX22_with_0 ++ []
theorem dksX22_with_0 : cX22_with.data.toList.drop 0 = dktX22_with_0 := by decide +kernel
theorem dX22_with_0 : decode cX22_with 0 = .ok (.iload_n 1, 1) := dk_27 (dk_at dksX22_with_0 0 rfl rfl)
theorem dX22_with_1 : decode cX22_with 1 = .ok (.iload_n 2, 1) := dk_28 (dk_at dksX22_with_0 1 rfl rfl)
theorem dX22_with_2 : decode cX22_with 2 = .ok (.isub, 1) := dk_100 (dk_at dksX22_with_0 2 rfl rfl)
theorem dX22_with_3 : decode cX22_with 3 = .ok (.ireturn, 1) := dk_172 (dk_at dksX22_with_0 3 rfl rfl)
abbrev cX22_init : ByteArray := prog_14_method_1_code
def yX22_init : MethodName := ⟨RX22, "<init>", "(LVowelChoir$Term;LVowelChoir$Term;)V"⟩
def dkwX22_init_0 : List UInt8 := [42, 43, 44, 183, 0, 1, 177]
abbrev dktX22_init_0 : List UInt8 := dkwX22_init_0 ++ []
theorem dksX22_init_0 : cX22_init.data.toList.drop 0 = dktX22_init_0 := by decide +kernel
theorem dX22_init_0 : decode cX22_init 0 = .ok (.aload_n 0, 1) := dk_42 (dk_at dksX22_init_0 0 rfl rfl)
theorem dX22_init_1 : decode cX22_init 1 = .ok (.aload_n 1, 1) := dk_43 (dk_at dksX22_init_0 1 rfl rfl)
theorem dX22_init_2 : decode cX22_init 2 = .ok (.aload_n 2, 1) := dk_44 (dk_at dksX22_init_0 2 rfl rfl)
theorem dX22_init_3 : decode cX22_init 3 = .ok (.invokespecial 1, 3) := dk_183 0 1 (dk_at dksX22_init_0 3 rfl rfl)
theorem dX22_init_6 : decode cX22_init 6 = .ok (.return_, 1) := dk_177 (dk_at dksX22_init_0 6 rfl rfl)
theorem q140 : (Jvm.Cond.initialized "VowelChoir$Minus") ∈ lw_all := lw_g (lw_at lw_m1 42 rfl) rfl
theorem q793 : (Jvm.Cond.selects "VowelChoir$Minus" ({ cls := "VowelChoir$Two", name := "with", desc := "(II)I" } : Jvm.MethodName) ({ cls := "VowelChoir$Minus", name := "with", desc := "(II)I" } : Jvm.MethodName)) ∈ lw_all := lw_g (lw_at lw_m3 215 rfl) rfl
theorem q794 : (Jvm.Cond.instanceMethod ({ cls := "VowelChoir$Minus", name := "with", desc := "(II)I" } : Jvm.MethodName)) ∈ lw_all := lw_g (lw_at lw_m3 216 rfl) rfl
theorem q795 : (Jvm.Cond.code ({ cls := "VowelChoir$Minus", name := "with", desc := "(II)I" } : Jvm.MethodName) prog_14_method_2_code (3 : Nat) (Option.some Jvm.ClassFile.FieldType.int)) ∈ lw_all := lw_g (lw_at lw_m3 217 rfl) rfl
theorem q809 : (Jvm.Cond.selects "VowelChoir$Minus" ({ cls := "VowelChoir$Term", name := "of", desc := "([I)I" } : Jvm.MethodName) ({ cls := "VowelChoir$Two", name := "of", desc := "([I)I" } : Jvm.MethodName)) ∈ lw_all := lw_g (lw_at lw_m3 231 rfl) rfl
theorem q1216 : (Jvm.Cond.selects "VowelChoir$Minus" ({ cls := "java/lang/Object", name := "getClass", desc := "()Ljava/lang/Class;" } : Jvm.MethodName) ({ cls := "java/lang/Object", name := "getClass", desc := "()Ljava/lang/Class;" } : Jvm.MethodName)) ∈ lw_all := lw_g (lw_at lw_m5 158 rfl) rfl
theorem q1438 : (Jvm.Cond.instantiable "VowelChoir$Minus" (2 : Nat)) ∈ lw_all := lw_g (lw_at lw_m6 140 rfl) rfl
theorem q1440 : (Jvm.Cond.instanceMethod ({ cls := "VowelChoir$Minus", name := "<init>", desc := "(LVowelChoir$Term;LVowelChoir$Term;)V" } : Jvm.MethodName)) ∈ lw_all := lw_g (lw_at lw_m6 142 rfl) rfl
theorem q1441 : (Jvm.Cond.code ({ cls := "VowelChoir$Minus", name := "<init>", desc := "(LVowelChoir$Term;LVowelChoir$Term;)V" } : Jvm.MethodName) prog_14_method_1_code (3 : Nat) (Option.none : Option Jvm.ClassFile.FieldType)) ∈ lw_all := lw_g (lw_at lw_m6 143 rfl) rfl
theorem q1442 : (Jvm.Cond.methodLink "VowelChoir$Minus" (1 : Nat) ({ cls := "VowelChoir$Two", name := "<init>", desc := "(LVowelChoir$Term;LVowelChoir$Term;)V" } : Jvm.MethodName)) ∈ lw_all := lw_g (lw_at lw_m6 144 rfl) rfl
theorem q1443 : (Jvm.Cond.laysFinal "VowelChoir$Minus" "VowelChoir$Two" "a" "LVowelChoir$Term;") ∈ lw_all := lw_g (lw_at lw_m6 145 rfl) rfl
theorem q1444 : (Jvm.Cond.laysFinal "VowelChoir$Minus" "VowelChoir$Two" "b" "LVowelChoir$Term;") ∈ lw_all := lw_g (lw_at lw_m6 146 rfl) rfl
theorem q1445 : (Jvm.Cond.superclass "VowelChoir$Minus" "VowelChoir$Two") ∈ lw_all := lw_g (lw_at lw_m6 147 rfl) rfl
theorem q2658 : (Jvm.Cond.castable "VowelChoir$Minus" "java/lang/Object") ∈ lw_tbl := lw_at lw_m11 160 rfl
theorem in_X22 : ∀ w ∈ wsX220, w ∈ lw_all := lw_in wsX220 [1443, 1444] (by decide +kernel) (by decide +kernel)
/-! VowelChoir$WorkReader -/
set_option maxRecDepth 100000
def RX23 : String := "VowelChoir$WorkReader"
def TX23 : u_T := fun k => match k with
  | 0 => ("VowelChoir$Reader", "text", "[B", true)
  | 1 => ("VowelChoir$Reader", "size", "I", true)
  | 2 => ("VowelChoir$Reader", "next", "I", false)
  | 3 => ("VowelChoir$Reader", "from", "I", false)
  | 4 => ("VowelChoir$Reader", "open", "I", false)
  | _ => ("VowelChoir$WorkReader", "t", "LVowelChoir$Told;", true)
def tyX23 : Nat → FieldType := fun k => match k with
  | 0 => .array .byte
  | 1 => .int
  | 2 => .int
  | 3 => .int
  | 4 => .int
  | _ => .object "VowelChoir$Told"
abbrev wsX230 : List Cond := u_ws RX23 TX23 6
theorem nmX23 : ∀ a, a < 6 → ∀ b, b < 6 → a ≠ b → (TX23 a).2.1 ≠ (TX23 b).2.1 := by decide +kernel
theorem tyX23_ok : ∀ k, k < 6 → parseFieldDescriptor (TX23 k).2.2.1 = some (tyX23 k) := by decide +kernel
abbrev cX23_init : ByteArray := prog_31_method_1_code
def yX23_init : MethodName := ⟨RX23, "<init>", "([BILVowelChoir$Told;)V"⟩
def dkwX23_init_0 : List UInt8 := [42, 43, 28, 183, 0, 3, 42, 45, 181, 0, 9, 177]
abbrev dktX23_init_0 : List UInt8 := dkwX23_init_0 ++ []
theorem dksX23_init_0 : cX23_init.data.toList.drop 0 = dktX23_init_0 := by decide +kernel
theorem dX23_init_0 : decode cX23_init 0 = .ok (.aload_n 0, 1) := dk_42 (dk_at dksX23_init_0 0 rfl rfl)
theorem dX23_init_1 : decode cX23_init 1 = .ok (.aload_n 1, 1) := dk_43 (dk_at dksX23_init_0 1 rfl rfl)
theorem dX23_init_2 : decode cX23_init 2 = .ok (.iload_n 2, 1) := dk_28 (dk_at dksX23_init_0 2 rfl rfl)
theorem dX23_init_3 : decode cX23_init 3 = .ok (.invokespecial 3, 3) := dk_183 0 3 (dk_at dksX23_init_0 3 rfl rfl)
theorem dX23_init_6 : decode cX23_init 6 = .ok (.aload_n 0, 1) := dk_42 (dk_at dksX23_init_0 6 rfl rfl)
theorem dX23_init_7 : decode cX23_init 7 = .ok (.aload_n 3, 1) := dk_45 (dk_at dksX23_init_0 7 rfl rfl)
theorem dX23_init_8 : decode cX23_init 8 = .ok (.putfield 9, 3) := dk_181 0 9 (dk_at dksX23_init_0 8 rfl rfl)
theorem dX23_init_11 : decode cX23_init 11 = .ok (.return_, 1) := dk_177 (dk_at dksX23_init_0 11 rfl rfl)
abbrev cX23_reads : ByteArray := prog_31_method_2_code
def yX23_reads : MethodName := ⟨RX23, "reads", "()Ljava/util/ArrayList;"⟩
def dkwX23_reads_1 : List UInt8 := [162, 0, 20, 43, 42, 182, 0, 31, 182, 0, 35, 87, 42, 182, 0, 20, 87, 167, 255, 231, 43, 176]
abbrev dktX23_reads_1 : List UInt8 := dkwX23_reads_1 ++ []
def dkwX23_reads_0 : List UInt8 := [187, 0, 15, 89, 5, 183, 0, 17, 76, 42, 182, 0, 20, 87, 42, 180, 0, 24, 42, 180, 0, 28]
abbrev dktX23_reads_0 : List UInt8 := dkwX23_reads_0 ++ dktX23_reads_1
theorem dksX23_reads_0 : cX23_reads.data.toList.drop 0 = dktX23_reads_0 := by decide +kernel
theorem dksX23_reads_1 : cX23_reads.data.toList.drop 22 = dktX23_reads_1 := dk_seg dksX23_reads_0 22 rfl rfl
theorem dX23_reads_0 : decode cX23_reads 0 = .ok (.new 15, 3) := dk_187 0 15 (dk_at dksX23_reads_0 0 rfl rfl)
theorem dX23_reads_3 : decode cX23_reads 3 = .ok (.dup, 1) := dk_89 (dk_at dksX23_reads_0 3 rfl rfl)
theorem dX23_reads_4 : decode cX23_reads 4 = .ok (.iconst 2, 1) := dk_5 (dk_at dksX23_reads_0 4 rfl rfl)
theorem dX23_reads_5 : decode cX23_reads 5 = .ok (.invokespecial 17, 3) := dk_183 0 17 (dk_at dksX23_reads_0 5 rfl rfl)
theorem dX23_reads_8 : decode cX23_reads 8 = .ok (.astore_n 1, 1) := dk_76 (dk_at dksX23_reads_0 8 rfl rfl)
theorem dX23_reads_9 : decode cX23_reads 9 = .ok (.aload_n 0, 1) := dk_42 (dk_at dksX23_reads_0 9 rfl rfl)
theorem dX23_reads_10 : decode cX23_reads 10 = .ok (.invokevirtual 20, 3) := dk_182 0 20 (dk_at dksX23_reads_0 10 rfl rfl)
theorem dX23_reads_13 : decode cX23_reads 13 = .ok (.pop, 1) := dk_87 (dk_at dksX23_reads_0 13 rfl rfl)
theorem dX23_reads_14 : decode cX23_reads 14 = .ok (.aload_n 0, 1) := dk_42 (dk_at dksX23_reads_0 14 rfl rfl)
theorem dX23_reads_15 : decode cX23_reads 15 = .ok (.getfield 24, 3) := dk_180 0 24 (dk_at dksX23_reads_0 15 rfl rfl)
theorem dX23_reads_18 : decode cX23_reads 18 = .ok (.aload_n 0, 1) := dk_42 (dk_at dksX23_reads_0 18 rfl rfl)
theorem dX23_reads_19 : decode cX23_reads 19 = .ok (.getfield 28, 3) := dk_180 0 28 (dk_at dksX23_reads_0 19 rfl rfl)
theorem dX23_reads_22 : decode cX23_reads 22 = .ok (.if_icmp .ge 20, 3) := dk_162 0 20 (dk_at dksX23_reads_1 0 rfl rfl)
theorem dX23_reads_25 : decode cX23_reads 25 = .ok (.aload_n 1, 1) := dk_43 (dk_at dksX23_reads_1 3 rfl rfl)
theorem dX23_reads_26 : decode cX23_reads 26 = .ok (.aload_n 0, 1) := dk_42 (dk_at dksX23_reads_1 4 rfl rfl)
theorem dX23_reads_27 : decode cX23_reads 27 = .ok (.invokevirtual 31, 3) := dk_182 0 31 (dk_at dksX23_reads_1 5 rfl rfl)
theorem dX23_reads_30 : decode cX23_reads 30 = .ok (.invokevirtual 35, 3) := dk_182 0 35 (dk_at dksX23_reads_1 8 rfl rfl)
theorem dX23_reads_33 : decode cX23_reads 33 = .ok (.pop, 1) := dk_87 (dk_at dksX23_reads_1 11 rfl rfl)
theorem dX23_reads_34 : decode cX23_reads 34 = .ok (.aload_n 0, 1) := dk_42 (dk_at dksX23_reads_1 12 rfl rfl)
theorem dX23_reads_35 : decode cX23_reads 35 = .ok (.invokevirtual 20, 3) := dk_182 0 20 (dk_at dksX23_reads_1 13 rfl rfl)
theorem dX23_reads_38 : decode cX23_reads 38 = .ok (.pop, 1) := dk_87 (dk_at dksX23_reads_1 16 rfl rfl)
theorem dX23_reads_39 : decode cX23_reads 39 = .ok (.goto (-25), 3) := dk_167 255 231 (dk_at dksX23_reads_1 17 rfl rfl)
theorem dX23_reads_42 : decode cX23_reads 42 = .ok (.aload_n 1, 1) := dk_43 (dk_at dksX23_reads_1 20 rfl rfl)
theorem dX23_reads_43 : decode cX23_reads 43 = .ok (.areturn, 1) := dk_176 (dk_at dksX23_reads_1 21 rfl rfl)
abbrev cX23_step : ByteArray := prog_31_method_4_code
def yX23_step : MethodName := ⟨RX23, "step", "()LVowelChoir$Step;"⟩
def dkwX23_step_10 : List UInt8 := [182, 0, 85, 77, 167, 0, 8, 42, 182, 0, 87, 191, 42, 16, 59, 182, 0, 91, 44, 176]
abbrev dktX23_step_10 : List UInt8 := dkwX23_step_10 ++ []
def dkwX23_step_9 : List UInt8 := [42, 89, 180, 0, 24, 43, 182, 0, 78, 96, 181, 0, 24, 42, 43, 182, 0, 81, 77, 167, 0, 16, 42]
abbrev dktX23_step_9 : List UInt8 := dkwX23_step_9 ++ dktX23_step_10
def dkwX23_step_8 : List UInt8 := [170, 0, 0, 0, 0, 0, 77, 0, 0, 0, 0, 0, 0, 0, 7, 0, 0, 0, 47, 0, 0, 0, 47, 0, 0, 0, 47, 0, 0, 0, 47, 0, 0, 0, 47, 0, 0, 0, 47, 0, 0, 0, 47, 0, 0, 0, 69]
abbrev dktX23_step_8 : List UInt8 := dkwX23_step_8 ++ dktX23_step_9
def dkwX23_step_7 : List UInt8 := [21, 4]
abbrev dktX23_step_7 : List UInt8 := dkwX23_step_7 ++ dktX23_step_8
def dkwX23_step_6 : List UInt8 := [153, 0, 23, 16, 6, 54, 4, 167, 0, 16, 45, 18, 76, 182, 0, 62, 153, 0, 7, 16, 7, 54, 4]
abbrev dktX23_step_6 : List UInt8 := dkwX23_step_6 ++ dktX23_step_7
def dkwX23_step_5 : List UInt8 := [167, 0, 47, 45, 18, 73, 182, 0, 62, 153, 0, 38, 8, 54, 4, 167, 0, 32, 45, 18, 74, 182, 0, 62]
abbrev dktX23_step_5 : List UInt8 := dkwX23_step_5 ++ dktX23_step_6
def dkwX23_step_4 : List UInt8 := [182, 0, 62, 153, 0, 68, 6, 54, 4, 167, 0, 62, 45, 18, 71, 182, 0, 62, 153, 0, 53, 7, 54, 4]
abbrev dktX23_step_4 : List UInt8 := dkwX23_step_4 ++ dktX23_step_5
def dkwX23_step_3 : List UInt8 := [4, 54, 4, 167, 0, 92, 45, 18, 67, 182, 0, 62, 153, 0, 83, 5, 54, 4, 167, 0, 77, 45, 18, 69]
abbrev dktX23_step_3 : List UInt8 := dkwX23_step_3 ++ dktX23_step_4
def dkwX23_step_2 : List UInt8 := [45, 18, 60, 182, 0, 62, 153, 0, 113, 3, 54, 4, 167, 0, 107, 45, 18, 65, 182, 0, 62, 153, 0, 98]
abbrev dktX23_step_2 : List UInt8 := dkwX23_step_2 ++ dktX23_step_3
def dkwX23_step_1 : List UInt8 := [171, 0, 0, 0, 0, 193, 0, 0, 0, 8, 183, 194, 3, 202, 0, 0, 0, 119, 0, 1, 131, 156, 0, 0, 0, 164, 0, 46, 198, 37, 0, 0, 0, 134, 0, 49, 26, 114, 0, 0, 0, 89, 0, 53, 91, 212, 0, 0, 0, 104, 0, 53, 222, 143, 0, 0, 0, 74, 0, 55, 199, 10, 0, 0, 0, 149, 5, 135, 51, 96, 0, 0, 0, 180]
abbrev dktX23_step_1 : List UInt8 := dkwX23_step_1 ++ dktX23_step_2
def dkwX23_step_0 : List UInt8 := [42, 182, 0, 51, 76, 43, 78, 2, 54, 4, 45, 182, 0, 55]
abbrev dktX23_step_0 : List UInt8 := dkwX23_step_0 ++ dktX23_step_1
theorem dksX23_step_0 : cX23_step.data.toList.drop 0 = dktX23_step_0 := by decide +kernel
theorem dksX23_step_1 : cX23_step.data.toList.drop 14 = dktX23_step_1 := dk_seg dksX23_step_0 14 rfl rfl
theorem dksX23_step_2 : cX23_step.data.toList.drop 88 = dktX23_step_2 := dk_seg dksX23_step_1 74 rfl rfl
theorem dksX23_step_3 : cX23_step.data.toList.drop 112 = dktX23_step_3 := dk_seg dksX23_step_2 24 rfl rfl
theorem dksX23_step_4 : cX23_step.data.toList.drop 136 = dktX23_step_4 := dk_seg dksX23_step_3 24 rfl rfl
theorem dksX23_step_5 : cX23_step.data.toList.drop 160 = dktX23_step_5 := dk_seg dksX23_step_4 24 rfl rfl
theorem dksX23_step_6 : cX23_step.data.toList.drop 184 = dktX23_step_6 := dk_seg dksX23_step_5 24 rfl rfl
theorem dksX23_step_7 : cX23_step.data.toList.drop 207 = dktX23_step_7 := dk_seg dksX23_step_6 23 rfl rfl
theorem dksX23_step_8 : cX23_step.data.toList.drop 209 = dktX23_step_8 := dk_seg dksX23_step_7 2 rfl rfl
theorem dksX23_step_9 : cX23_step.data.toList.drop 256 = dktX23_step_9 := dk_seg dksX23_step_8 47 rfl rfl
theorem dksX23_step_10 : cX23_step.data.toList.drop 279 = dktX23_step_10 := dk_seg dksX23_step_9 23 rfl rfl
theorem dX23_step_0 : decode cX23_step 0 = .ok (.aload_n 0, 1) := dk_42 (dk_at dksX23_step_0 0 rfl rfl)
theorem dX23_step_1 : decode cX23_step 1 = .ok (.invokevirtual 51, 3) := dk_182 0 51 (dk_at dksX23_step_0 1 rfl rfl)
theorem dX23_step_4 : decode cX23_step 4 = .ok (.astore_n 1, 1) := dk_76 (dk_at dksX23_step_0 4 rfl rfl)
theorem dX23_step_5 : decode cX23_step 5 = .ok (.aload_n 1, 1) := dk_43 (dk_at dksX23_step_0 5 rfl rfl)
theorem dX23_step_6 : decode cX23_step 6 = .ok (.astore_n 3, 1) := dk_78 (dk_at dksX23_step_0 6 rfl rfl)
theorem dX23_step_7 : decode cX23_step 7 = .ok (.iconst (-1), 1) := dk_2 (dk_at dksX23_step_0 7 rfl rfl)
theorem dX23_step_8 : decode cX23_step 8 = .ok (.istore 4, 2) := dk_54 4 (dk_at dksX23_step_0 8 rfl rfl)
theorem dX23_step_10 : decode cX23_step 10 = .ok (.aload_n 3, 1) := dk_45 (dk_at dksX23_step_0 10 rfl rfl)
theorem dX23_step_11 : decode cX23_step 11 = .ok (.invokevirtual 55, 3) := dk_182 0 55 (dk_at dksX23_step_0 11 rfl rfl)
theorem dX23_step_14 : decode cX23_step 14 = .ok (.lookupswitch 193 #[(-1212021814, 119), (99228, 164), (3065381, 134), (3218034, 89), (3496916, 104), (3530383, 74), (3655434, 149), (92746592, 180)], 74) := by decide +kernel
theorem dX23_step_88 : decode cX23_step 88 = .ok (.aload_n 3, 1) := dk_45 (dk_at dksX23_step_2 0 rfl rfl)
theorem dX23_step_89 : decode cX23_step 89 = .ok (.ldc 60, 2) := dk_18 60 (dk_at dksX23_step_2 1 rfl rfl)
theorem dX23_step_91 : decode cX23_step 91 = .ok (.invokevirtual 62, 3) := dk_182 0 62 (dk_at dksX23_step_2 3 rfl rfl)
theorem dX23_step_94 : decode cX23_step 94 = .ok (.ifCond .eq 113, 3) := dk_153 0 113 (dk_at dksX23_step_2 6 rfl rfl)
theorem dX23_step_97 : decode cX23_step 97 = .ok (.iconst 0, 1) := dk_3 (dk_at dksX23_step_2 9 rfl rfl)
theorem dX23_step_98 : decode cX23_step 98 = .ok (.istore 4, 2) := dk_54 4 (dk_at dksX23_step_2 10 rfl rfl)
theorem dX23_step_100 : decode cX23_step 100 = .ok (.goto 107, 3) := dk_167 0 107 (dk_at dksX23_step_2 12 rfl rfl)
theorem dX23_step_103 : decode cX23_step 103 = .ok (.aload_n 3, 1) := dk_45 (dk_at dksX23_step_2 15 rfl rfl)
theorem dX23_step_104 : decode cX23_step 104 = .ok (.ldc 65, 2) := dk_18 65 (dk_at dksX23_step_2 16 rfl rfl)
theorem dX23_step_106 : decode cX23_step 106 = .ok (.invokevirtual 62, 3) := dk_182 0 62 (dk_at dksX23_step_2 18 rfl rfl)
theorem dX23_step_109 : decode cX23_step 109 = .ok (.ifCond .eq 98, 3) := dk_153 0 98 (dk_at dksX23_step_2 21 rfl rfl)
theorem dX23_step_112 : decode cX23_step 112 = .ok (.iconst 1, 1) := dk_4 (dk_at dksX23_step_3 0 rfl rfl)
theorem dX23_step_113 : decode cX23_step 113 = .ok (.istore 4, 2) := dk_54 4 (dk_at dksX23_step_3 1 rfl rfl)
theorem dX23_step_115 : decode cX23_step 115 = .ok (.goto 92, 3) := dk_167 0 92 (dk_at dksX23_step_3 3 rfl rfl)
theorem dX23_step_118 : decode cX23_step 118 = .ok (.aload_n 3, 1) := dk_45 (dk_at dksX23_step_3 6 rfl rfl)
theorem dX23_step_119 : decode cX23_step 119 = .ok (.ldc 67, 2) := dk_18 67 (dk_at dksX23_step_3 7 rfl rfl)
theorem dX23_step_121 : decode cX23_step 121 = .ok (.invokevirtual 62, 3) := dk_182 0 62 (dk_at dksX23_step_3 9 rfl rfl)
theorem dX23_step_124 : decode cX23_step 124 = .ok (.ifCond .eq 83, 3) := dk_153 0 83 (dk_at dksX23_step_3 12 rfl rfl)
theorem dX23_step_127 : decode cX23_step 127 = .ok (.iconst 2, 1) := dk_5 (dk_at dksX23_step_3 15 rfl rfl)
theorem dX23_step_128 : decode cX23_step 128 = .ok (.istore 4, 2) := dk_54 4 (dk_at dksX23_step_3 16 rfl rfl)
theorem dX23_step_130 : decode cX23_step 130 = .ok (.goto 77, 3) := dk_167 0 77 (dk_at dksX23_step_3 18 rfl rfl)
theorem dX23_step_133 : decode cX23_step 133 = .ok (.aload_n 3, 1) := dk_45 (dk_at dksX23_step_3 21 rfl rfl)
theorem dX23_step_134 : decode cX23_step 134 = .ok (.ldc 69, 2) := dk_18 69 (dk_at dksX23_step_3 22 rfl rfl)
theorem dX23_step_136 : decode cX23_step 136 = .ok (.invokevirtual 62, 3) := dk_182 0 62 (dk_at dksX23_step_4 0 rfl rfl)
theorem dX23_step_139 : decode cX23_step 139 = .ok (.ifCond .eq 68, 3) := dk_153 0 68 (dk_at dksX23_step_4 3 rfl rfl)
theorem dX23_step_142 : decode cX23_step 142 = .ok (.iconst 3, 1) := dk_6 (dk_at dksX23_step_4 6 rfl rfl)
theorem dX23_step_143 : decode cX23_step 143 = .ok (.istore 4, 2) := dk_54 4 (dk_at dksX23_step_4 7 rfl rfl)
theorem dX23_step_145 : decode cX23_step 145 = .ok (.goto 62, 3) := dk_167 0 62 (dk_at dksX23_step_4 9 rfl rfl)
theorem dX23_step_148 : decode cX23_step 148 = .ok (.aload_n 3, 1) := dk_45 (dk_at dksX23_step_4 12 rfl rfl)
theorem dX23_step_149 : decode cX23_step 149 = .ok (.ldc 71, 2) := dk_18 71 (dk_at dksX23_step_4 13 rfl rfl)
theorem dX23_step_151 : decode cX23_step 151 = .ok (.invokevirtual 62, 3) := dk_182 0 62 (dk_at dksX23_step_4 15 rfl rfl)
theorem dX23_step_154 : decode cX23_step 154 = .ok (.ifCond .eq 53, 3) := dk_153 0 53 (dk_at dksX23_step_4 18 rfl rfl)
theorem dX23_step_157 : decode cX23_step 157 = .ok (.iconst 4, 1) := dk_7 (dk_at dksX23_step_4 21 rfl rfl)
theorem dX23_step_158 : decode cX23_step 158 = .ok (.istore 4, 2) := dk_54 4 (dk_at dksX23_step_4 22 rfl rfl)
theorem dX23_step_160 : decode cX23_step 160 = .ok (.goto 47, 3) := dk_167 0 47 (dk_at dksX23_step_5 0 rfl rfl)
theorem dX23_step_163 : decode cX23_step 163 = .ok (.aload_n 3, 1) := dk_45 (dk_at dksX23_step_5 3 rfl rfl)
theorem dX23_step_164 : decode cX23_step 164 = .ok (.ldc 73, 2) := dk_18 73 (dk_at dksX23_step_5 4 rfl rfl)
theorem dX23_step_166 : decode cX23_step 166 = .ok (.invokevirtual 62, 3) := dk_182 0 62 (dk_at dksX23_step_5 6 rfl rfl)
theorem dX23_step_169 : decode cX23_step 169 = .ok (.ifCond .eq 38, 3) := dk_153 0 38 (dk_at dksX23_step_5 9 rfl rfl)
theorem dX23_step_172 : decode cX23_step 172 = .ok (.iconst 5, 1) := dk_8 (dk_at dksX23_step_5 12 rfl rfl)
theorem dX23_step_173 : decode cX23_step 173 = .ok (.istore 4, 2) := dk_54 4 (dk_at dksX23_step_5 13 rfl rfl)
theorem dX23_step_175 : decode cX23_step 175 = .ok (.goto 32, 3) := dk_167 0 32 (dk_at dksX23_step_5 15 rfl rfl)
theorem dX23_step_178 : decode cX23_step 178 = .ok (.aload_n 3, 1) := dk_45 (dk_at dksX23_step_5 18 rfl rfl)
theorem dX23_step_179 : decode cX23_step 179 = .ok (.ldc 74, 2) := dk_18 74 (dk_at dksX23_step_5 19 rfl rfl)
theorem dX23_step_181 : decode cX23_step 181 = .ok (.invokevirtual 62, 3) := dk_182 0 62 (dk_at dksX23_step_5 21 rfl rfl)
theorem dX23_step_184 : decode cX23_step 184 = .ok (.ifCond .eq 23, 3) := dk_153 0 23 (dk_at dksX23_step_6 0 rfl rfl)
theorem dX23_step_187 : decode cX23_step 187 = .ok (.bipush 6, 2) := dk_16 6 (dk_at dksX23_step_6 3 rfl rfl)
theorem dX23_step_189 : decode cX23_step 189 = .ok (.istore 4, 2) := dk_54 4 (dk_at dksX23_step_6 5 rfl rfl)
theorem dX23_step_191 : decode cX23_step 191 = .ok (.goto 16, 3) := dk_167 0 16 (dk_at dksX23_step_6 7 rfl rfl)
theorem dX23_step_194 : decode cX23_step 194 = .ok (.aload_n 3, 1) := dk_45 (dk_at dksX23_step_6 10 rfl rfl)
theorem dX23_step_195 : decode cX23_step 195 = .ok (.ldc 76, 2) := dk_18 76 (dk_at dksX23_step_6 11 rfl rfl)
theorem dX23_step_197 : decode cX23_step 197 = .ok (.invokevirtual 62, 3) := dk_182 0 62 (dk_at dksX23_step_6 13 rfl rfl)
theorem dX23_step_200 : decode cX23_step 200 = .ok (.ifCond .eq 7, 3) := dk_153 0 7 (dk_at dksX23_step_6 16 rfl rfl)
theorem dX23_step_203 : decode cX23_step 203 = .ok (.bipush 7, 2) := dk_16 7 (dk_at dksX23_step_6 19 rfl rfl)
theorem dX23_step_205 : decode cX23_step 205 = .ok (.istore 4, 2) := dk_54 4 (dk_at dksX23_step_6 21 rfl rfl)
theorem dX23_step_207 : decode cX23_step 207 = .ok (.iload 4, 2) := dk_21 4 (dk_at dksX23_step_7 0 rfl rfl)
theorem dX23_step_209 : decode cX23_step 209 = .ok (.tableswitch 77 0 7 #[47, 47, 47, 47, 47, 47, 47, 69], 47) := by decide +kernel
theorem dX23_step_256 : decode cX23_step 256 = .ok (.aload_n 0, 1) := dk_42 (dk_at dksX23_step_9 0 rfl rfl)
theorem dX23_step_257 : decode cX23_step 257 = .ok (.dup, 1) := dk_89 (dk_at dksX23_step_9 1 rfl rfl)
theorem dX23_step_258 : decode cX23_step 258 = .ok (.getfield 24, 3) := dk_180 0 24 (dk_at dksX23_step_9 2 rfl rfl)
theorem dX23_step_261 : decode cX23_step 261 = .ok (.aload_n 1, 1) := dk_43 (dk_at dksX23_step_9 5 rfl rfl)
theorem dX23_step_262 : decode cX23_step 262 = .ok (.invokevirtual 78, 3) := dk_182 0 78 (dk_at dksX23_step_9 6 rfl rfl)
theorem dX23_step_265 : decode cX23_step 265 = .ok (.iadd, 1) := dk_96 (dk_at dksX23_step_9 9 rfl rfl)
theorem dX23_step_266 : decode cX23_step 266 = .ok (.putfield 24, 3) := dk_181 0 24 (dk_at dksX23_step_9 10 rfl rfl)
theorem dX23_step_269 : decode cX23_step 269 = .ok (.aload_n 0, 1) := dk_42 (dk_at dksX23_step_9 13 rfl rfl)
theorem dX23_step_270 : decode cX23_step 270 = .ok (.aload_n 1, 1) := dk_43 (dk_at dksX23_step_9 14 rfl rfl)
theorem dX23_step_271 : decode cX23_step 271 = .ok (.invokevirtual 81, 3) := dk_182 0 81 (dk_at dksX23_step_9 15 rfl rfl)
theorem dX23_step_274 : decode cX23_step 274 = .ok (.astore_n 2, 1) := dk_77 (dk_at dksX23_step_9 18 rfl rfl)
theorem dX23_step_275 : decode cX23_step 275 = .ok (.goto 16, 3) := dk_167 0 16 (dk_at dksX23_step_9 19 rfl rfl)
theorem dX23_step_278 : decode cX23_step 278 = .ok (.aload_n 0, 1) := dk_42 (dk_at dksX23_step_9 22 rfl rfl)
theorem dX23_step_279 : decode cX23_step 279 = .ok (.invokevirtual 85, 3) := dk_182 0 85 (dk_at dksX23_step_10 0 rfl rfl)
theorem dX23_step_282 : decode cX23_step 282 = .ok (.astore_n 2, 1) := dk_77 (dk_at dksX23_step_10 3 rfl rfl)
theorem dX23_step_283 : decode cX23_step 283 = .ok (.goto 8, 3) := dk_167 0 8 (dk_at dksX23_step_10 4 rfl rfl)
theorem dX23_step_286 : decode cX23_step 286 = .ok (.aload_n 0, 1) := dk_42 (dk_at dksX23_step_10 7 rfl rfl)
theorem dX23_step_287 : decode cX23_step 287 = .ok (.invokevirtual 87, 3) := dk_182 0 87 (dk_at dksX23_step_10 8 rfl rfl)
theorem dX23_step_290 : decode cX23_step 290 = .ok (.athrow, 1) := dk_191 (dk_at dksX23_step_10 11 rfl rfl)
theorem dX23_step_291 : decode cX23_step 291 = .ok (.aload_n 0, 1) := dk_42 (dk_at dksX23_step_10 12 rfl rfl)
theorem dX23_step_292 : decode cX23_step 292 = .ok (.bipush 59, 2) := dk_16 59 (dk_at dksX23_step_10 13 rfl rfl)
theorem dX23_step_294 : decode cX23_step 294 = .ok (.invokevirtual 91, 3) := dk_182 0 91 (dk_at dksX23_step_10 15 rfl rfl)
theorem dX23_step_297 : decode cX23_step 297 = .ok (.aload_n 2, 1) := dk_44 (dk_at dksX23_step_10 18 rfl rfl)
theorem dX23_step_298 : decode cX23_step 298 = .ok (.areturn, 1) := dk_176 (dk_at dksX23_step_10 19 rfl rfl)
abbrev cX23_act : ByteArray := prog_31_method_5_code
def yX23_act : MethodName := ⟨RX23, "act", "(Ljava/lang/String;)LVowelChoir$Step;"⟩
def dkwX23_act_10 : List UInt8 := [21, 4, 42, 3, 8, 182, 0, 47, 183, 0, 118, 176, 187, 0, 121, 89, 183, 0, 123, 176]
abbrev dktX23_act_10 : List UInt8 := dkwX23_act_10 ++ []
def dkwX23_act_9 : List UInt8 := [182, 0, 47, 43, 18, 69, 182, 0, 62, 183, 0, 113, 176, 42, 182, 0, 96, 54, 4, 187, 0, 116, 89]
abbrev dktX23_act_9 : List UInt8 := dkwX23_act_9 ++ dktX23_act_10
def dkwX23_act_8 : List UInt8 := [183, 0, 107, 176, 187, 0, 108, 89, 42, 3, 42, 180, 0, 9, 180, 0, 110, 182, 0, 45, 4, 100]
abbrev dktX23_act_8 : List UInt8 := dkwX23_act_8 ++ dktX23_act_9
def dkwX23_act_7 : List UInt8 := [187, 0, 94, 89, 42, 182, 0, 96, 183, 0, 99, 176, 187, 0, 100, 89, 183, 0, 102, 176, 187, 0, 105, 89]
abbrev dktX23_act_7 : List UInt8 := dkwX23_act_7 ++ dktX23_act_8
def dkwX23_act_6 : List UInt8 := [170, 0, 0, 0, 0, 119, 0, 0, 0, 0, 0, 0, 0, 5, 0, 0, 0, 38, 0, 0, 0, 50, 0, 0, 0, 58, 0, 0, 0, 66, 0, 0, 0, 66, 0, 0, 0, 97]
abbrev dktX23_act_6 : List UInt8 := dkwX23_act_6 ++ dktX23_act_7
def dkwX23_act_5 : List UInt8 := [18, 73, 182, 0, 62, 153, 0, 5, 8, 62, 29]
abbrev dktX23_act_5 : List UInt8 := dkwX23_act_5 ++ dktX23_act_6
def dkwX23_act_4 : List UInt8 := [153, 0, 33, 6, 62, 167, 0, 28, 44, 18, 71, 182, 0, 62, 153, 0, 19, 7, 62, 167, 0, 14, 44]
abbrev dktX23_act_4 : List UInt8 := dkwX23_act_4 ++ dktX23_act_5
def dkwX23_act_3 : List UInt8 := [62, 167, 0, 56, 44, 18, 67, 182, 0, 62, 153, 0, 47, 5, 62, 167, 0, 42, 44, 18, 69, 182, 0, 62]
abbrev dktX23_act_3 : List UInt8 := dkwX23_act_3 ++ dktX23_act_4
def dkwX23_act_2 : List UInt8 := [44, 18, 60, 182, 0, 62, 153, 0, 75, 3, 62, 167, 0, 70, 44, 18, 65, 182, 0, 62, 153, 0, 61, 4]
abbrev dktX23_act_2 : List UInt8 := dkwX23_act_2 ++ dktX23_act_3
def dkwX23_act_1 : List UInt8 := [171, 0, 0, 0, 0, 0, 0, 141, 0, 0, 0, 6, 183, 194, 3, 202, 0, 0, 0, 102, 0, 46, 198, 37, 0, 0, 0, 116, 0, 49, 26, 114, 0, 0, 0, 74, 0, 53, 91, 212, 0, 0, 0, 88, 0, 53, 222, 143, 0, 0, 0, 60, 0, 55, 199, 10, 0, 0, 0, 130]
abbrev dktX23_act_1 : List UInt8 := dkwX23_act_1 ++ dktX23_act_2
def dkwX23_act_0 : List UInt8 := [43, 77, 2, 62, 44, 182, 0, 55]
abbrev dktX23_act_0 : List UInt8 := dkwX23_act_0 ++ dktX23_act_1
theorem dksX23_act_0 : cX23_act.data.toList.drop 0 = dktX23_act_0 := by decide +kernel
theorem dksX23_act_1 : cX23_act.data.toList.drop 8 = dktX23_act_1 := dk_seg dksX23_act_0 8 rfl rfl
theorem dksX23_act_2 : cX23_act.data.toList.drop 68 = dktX23_act_2 := dk_seg dksX23_act_1 60 rfl rfl
theorem dksX23_act_3 : cX23_act.data.toList.drop 92 = dktX23_act_3 := dk_seg dksX23_act_2 24 rfl rfl
theorem dksX23_act_4 : cX23_act.data.toList.drop 116 = dktX23_act_4 := dk_seg dksX23_act_3 24 rfl rfl
theorem dksX23_act_5 : cX23_act.data.toList.drop 139 = dktX23_act_5 := dk_seg dksX23_act_4 23 rfl rfl
theorem dksX23_act_6 : cX23_act.data.toList.drop 150 = dktX23_act_6 := dk_seg dksX23_act_5 11 rfl rfl
theorem dksX23_act_7 : cX23_act.data.toList.drop 188 = dktX23_act_7 := dk_seg dksX23_act_6 38 rfl rfl
theorem dksX23_act_8 : cX23_act.data.toList.drop 212 = dktX23_act_8 := dk_seg dksX23_act_7 24 rfl rfl
theorem dksX23_act_9 : cX23_act.data.toList.drop 234 = dktX23_act_9 := dk_seg dksX23_act_8 22 rfl rfl
theorem dksX23_act_10 : cX23_act.data.toList.drop 257 = dktX23_act_10 := dk_seg dksX23_act_9 23 rfl rfl
theorem dX23_act_0 : decode cX23_act 0 = .ok (.aload_n 1, 1) := dk_43 (dk_at dksX23_act_0 0 rfl rfl)
theorem dX23_act_1 : decode cX23_act 1 = .ok (.astore_n 2, 1) := dk_77 (dk_at dksX23_act_0 1 rfl rfl)
theorem dX23_act_2 : decode cX23_act 2 = .ok (.iconst (-1), 1) := dk_2 (dk_at dksX23_act_0 2 rfl rfl)
theorem dX23_act_3 : decode cX23_act 3 = .ok (.istore_n 3, 1) := dk_62 (dk_at dksX23_act_0 3 rfl rfl)
theorem dX23_act_4 : decode cX23_act 4 = .ok (.aload_n 2, 1) := dk_44 (dk_at dksX23_act_0 4 rfl rfl)
theorem dX23_act_5 : decode cX23_act 5 = .ok (.invokevirtual 55, 3) := dk_182 0 55 (dk_at dksX23_act_0 5 rfl rfl)
theorem dX23_act_8 : decode cX23_act 8 = .ok (.lookupswitch 141 #[(-1212021814, 102), (3065381, 116), (3218034, 74), (3496916, 88), (3530383, 60), (3655434, 130)], 60) := by decide +kernel
theorem dX23_act_68 : decode cX23_act 68 = .ok (.aload_n 2, 1) := dk_44 (dk_at dksX23_act_2 0 rfl rfl)
theorem dX23_act_69 : decode cX23_act 69 = .ok (.ldc 60, 2) := dk_18 60 (dk_at dksX23_act_2 1 rfl rfl)
theorem dX23_act_71 : decode cX23_act 71 = .ok (.invokevirtual 62, 3) := dk_182 0 62 (dk_at dksX23_act_2 3 rfl rfl)
theorem dX23_act_74 : decode cX23_act 74 = .ok (.ifCond .eq 75, 3) := dk_153 0 75 (dk_at dksX23_act_2 6 rfl rfl)
theorem dX23_act_77 : decode cX23_act 77 = .ok (.iconst 0, 1) := dk_3 (dk_at dksX23_act_2 9 rfl rfl)
theorem dX23_act_78 : decode cX23_act 78 = .ok (.istore_n 3, 1) := dk_62 (dk_at dksX23_act_2 10 rfl rfl)
theorem dX23_act_79 : decode cX23_act 79 = .ok (.goto 70, 3) := dk_167 0 70 (dk_at dksX23_act_2 11 rfl rfl)
theorem dX23_act_82 : decode cX23_act 82 = .ok (.aload_n 2, 1) := dk_44 (dk_at dksX23_act_2 14 rfl rfl)
theorem dX23_act_83 : decode cX23_act 83 = .ok (.ldc 65, 2) := dk_18 65 (dk_at dksX23_act_2 15 rfl rfl)
theorem dX23_act_85 : decode cX23_act 85 = .ok (.invokevirtual 62, 3) := dk_182 0 62 (dk_at dksX23_act_2 17 rfl rfl)
theorem dX23_act_88 : decode cX23_act 88 = .ok (.ifCond .eq 61, 3) := dk_153 0 61 (dk_at dksX23_act_2 20 rfl rfl)
theorem dX23_act_91 : decode cX23_act 91 = .ok (.iconst 1, 1) := dk_4 (dk_at dksX23_act_2 23 rfl rfl)
theorem dX23_act_92 : decode cX23_act 92 = .ok (.istore_n 3, 1) := dk_62 (dk_at dksX23_act_3 0 rfl rfl)
theorem dX23_act_93 : decode cX23_act 93 = .ok (.goto 56, 3) := dk_167 0 56 (dk_at dksX23_act_3 1 rfl rfl)
theorem dX23_act_96 : decode cX23_act 96 = .ok (.aload_n 2, 1) := dk_44 (dk_at dksX23_act_3 4 rfl rfl)
theorem dX23_act_97 : decode cX23_act 97 = .ok (.ldc 67, 2) := dk_18 67 (dk_at dksX23_act_3 5 rfl rfl)
theorem dX23_act_99 : decode cX23_act 99 = .ok (.invokevirtual 62, 3) := dk_182 0 62 (dk_at dksX23_act_3 7 rfl rfl)
theorem dX23_act_102 : decode cX23_act 102 = .ok (.ifCond .eq 47, 3) := dk_153 0 47 (dk_at dksX23_act_3 10 rfl rfl)
theorem dX23_act_105 : decode cX23_act 105 = .ok (.iconst 2, 1) := dk_5 (dk_at dksX23_act_3 13 rfl rfl)
theorem dX23_act_106 : decode cX23_act 106 = .ok (.istore_n 3, 1) := dk_62 (dk_at dksX23_act_3 14 rfl rfl)
theorem dX23_act_107 : decode cX23_act 107 = .ok (.goto 42, 3) := dk_167 0 42 (dk_at dksX23_act_3 15 rfl rfl)
theorem dX23_act_110 : decode cX23_act 110 = .ok (.aload_n 2, 1) := dk_44 (dk_at dksX23_act_3 18 rfl rfl)
theorem dX23_act_111 : decode cX23_act 111 = .ok (.ldc 69, 2) := dk_18 69 (dk_at dksX23_act_3 19 rfl rfl)
theorem dX23_act_113 : decode cX23_act 113 = .ok (.invokevirtual 62, 3) := dk_182 0 62 (dk_at dksX23_act_3 21 rfl rfl)
theorem dX23_act_116 : decode cX23_act 116 = .ok (.ifCond .eq 33, 3) := dk_153 0 33 (dk_at dksX23_act_4 0 rfl rfl)
theorem dX23_act_119 : decode cX23_act 119 = .ok (.iconst 3, 1) := dk_6 (dk_at dksX23_act_4 3 rfl rfl)
theorem dX23_act_120 : decode cX23_act 120 = .ok (.istore_n 3, 1) := dk_62 (dk_at dksX23_act_4 4 rfl rfl)
theorem dX23_act_121 : decode cX23_act 121 = .ok (.goto 28, 3) := dk_167 0 28 (dk_at dksX23_act_4 5 rfl rfl)
theorem dX23_act_124 : decode cX23_act 124 = .ok (.aload_n 2, 1) := dk_44 (dk_at dksX23_act_4 8 rfl rfl)
theorem dX23_act_125 : decode cX23_act 125 = .ok (.ldc 71, 2) := dk_18 71 (dk_at dksX23_act_4 9 rfl rfl)
theorem dX23_act_127 : decode cX23_act 127 = .ok (.invokevirtual 62, 3) := dk_182 0 62 (dk_at dksX23_act_4 11 rfl rfl)
theorem dX23_act_130 : decode cX23_act 130 = .ok (.ifCond .eq 19, 3) := dk_153 0 19 (dk_at dksX23_act_4 14 rfl rfl)
theorem dX23_act_133 : decode cX23_act 133 = .ok (.iconst 4, 1) := dk_7 (dk_at dksX23_act_4 17 rfl rfl)
theorem dX23_act_134 : decode cX23_act 134 = .ok (.istore_n 3, 1) := dk_62 (dk_at dksX23_act_4 18 rfl rfl)
theorem dX23_act_135 : decode cX23_act 135 = .ok (.goto 14, 3) := dk_167 0 14 (dk_at dksX23_act_4 19 rfl rfl)
theorem dX23_act_138 : decode cX23_act 138 = .ok (.aload_n 2, 1) := dk_44 (dk_at dksX23_act_4 22 rfl rfl)
theorem dX23_act_139 : decode cX23_act 139 = .ok (.ldc 73, 2) := dk_18 73 (dk_at dksX23_act_5 0 rfl rfl)
theorem dX23_act_141 : decode cX23_act 141 = .ok (.invokevirtual 62, 3) := dk_182 0 62 (dk_at dksX23_act_5 2 rfl rfl)
theorem dX23_act_144 : decode cX23_act 144 = .ok (.ifCond .eq 5, 3) := dk_153 0 5 (dk_at dksX23_act_5 5 rfl rfl)
theorem dX23_act_147 : decode cX23_act 147 = .ok (.iconst 5, 1) := dk_8 (dk_at dksX23_act_5 8 rfl rfl)
theorem dX23_act_148 : decode cX23_act 148 = .ok (.istore_n 3, 1) := dk_62 (dk_at dksX23_act_5 9 rfl rfl)
theorem dX23_act_149 : decode cX23_act 149 = .ok (.iload_n 3, 1) := dk_29 (dk_at dksX23_act_5 10 rfl rfl)
theorem dX23_act_150 : decode cX23_act 150 = .ok (.tableswitch 119 0 5 #[38, 50, 58, 66, 66, 97], 38) := by decide +kernel
theorem dX23_act_188 : decode cX23_act 188 = .ok (.new 94, 3) := dk_187 0 94 (dk_at dksX23_act_7 0 rfl rfl)
theorem dX23_act_191 : decode cX23_act 191 = .ok (.dup, 1) := dk_89 (dk_at dksX23_act_7 3 rfl rfl)
theorem dX23_act_192 : decode cX23_act 192 = .ok (.aload_n 0, 1) := dk_42 (dk_at dksX23_act_7 4 rfl rfl)
theorem dX23_act_193 : decode cX23_act 193 = .ok (.invokevirtual 96, 3) := dk_182 0 96 (dk_at dksX23_act_7 5 rfl rfl)
theorem dX23_act_196 : decode cX23_act 196 = .ok (.invokespecial 99, 3) := dk_183 0 99 (dk_at dksX23_act_7 8 rfl rfl)
theorem dX23_act_199 : decode cX23_act 199 = .ok (.areturn, 1) := dk_176 (dk_at dksX23_act_7 11 rfl rfl)
theorem dX23_act_200 : decode cX23_act 200 = .ok (.new 100, 3) := dk_187 0 100 (dk_at dksX23_act_7 12 rfl rfl)
theorem dX23_act_203 : decode cX23_act 203 = .ok (.dup, 1) := dk_89 (dk_at dksX23_act_7 15 rfl rfl)
theorem dX23_act_204 : decode cX23_act 204 = .ok (.invokespecial 102, 3) := dk_183 0 102 (dk_at dksX23_act_7 16 rfl rfl)
theorem dX23_act_207 : decode cX23_act 207 = .ok (.areturn, 1) := dk_176 (dk_at dksX23_act_7 19 rfl rfl)
theorem dX23_act_208 : decode cX23_act 208 = .ok (.new 105, 3) := dk_187 0 105 (dk_at dksX23_act_7 20 rfl rfl)
theorem dX23_act_211 : decode cX23_act 211 = .ok (.dup, 1) := dk_89 (dk_at dksX23_act_7 23 rfl rfl)
theorem dX23_act_212 : decode cX23_act 212 = .ok (.invokespecial 107, 3) := dk_183 0 107 (dk_at dksX23_act_8 0 rfl rfl)
theorem dX23_act_215 : decode cX23_act 215 = .ok (.areturn, 1) := dk_176 (dk_at dksX23_act_8 3 rfl rfl)
theorem dX23_act_216 : decode cX23_act 216 = .ok (.new 108, 3) := dk_187 0 108 (dk_at dksX23_act_8 4 rfl rfl)
theorem dX23_act_219 : decode cX23_act 219 = .ok (.dup, 1) := dk_89 (dk_at dksX23_act_8 7 rfl rfl)
theorem dX23_act_220 : decode cX23_act 220 = .ok (.aload_n 0, 1) := dk_42 (dk_at dksX23_act_8 8 rfl rfl)
theorem dX23_act_221 : decode cX23_act 221 = .ok (.iconst 0, 1) := dk_3 (dk_at dksX23_act_8 9 rfl rfl)
theorem dX23_act_222 : decode cX23_act 222 = .ok (.aload_n 0, 1) := dk_42 (dk_at dksX23_act_8 10 rfl rfl)
theorem dX23_act_223 : decode cX23_act 223 = .ok (.getfield 9, 3) := dk_180 0 9 (dk_at dksX23_act_8 11 rfl rfl)
theorem dX23_act_226 : decode cX23_act 226 = .ok (.getfield 110, 3) := dk_180 0 110 (dk_at dksX23_act_8 14 rfl rfl)
theorem dX23_act_229 : decode cX23_act 229 = .ok (.invokevirtual 45, 3) := dk_182 0 45 (dk_at dksX23_act_8 17 rfl rfl)
theorem dX23_act_232 : decode cX23_act 232 = .ok (.iconst 1, 1) := dk_4 (dk_at dksX23_act_8 20 rfl rfl)
theorem dX23_act_233 : decode cX23_act 233 = .ok (.isub, 1) := dk_100 (dk_at dksX23_act_8 21 rfl rfl)
theorem dX23_act_234 : decode cX23_act 234 = .ok (.invokevirtual 47, 3) := dk_182 0 47 (dk_at dksX23_act_9 0 rfl rfl)
theorem dX23_act_237 : decode cX23_act 237 = .ok (.aload_n 1, 1) := dk_43 (dk_at dksX23_act_9 3 rfl rfl)
theorem dX23_act_238 : decode cX23_act 238 = .ok (.ldc 69, 2) := dk_18 69 (dk_at dksX23_act_9 4 rfl rfl)
theorem dX23_act_240 : decode cX23_act 240 = .ok (.invokevirtual 62, 3) := dk_182 0 62 (dk_at dksX23_act_9 6 rfl rfl)
theorem dX23_act_243 : decode cX23_act 243 = .ok (.invokespecial 113, 3) := dk_183 0 113 (dk_at dksX23_act_9 9 rfl rfl)
theorem dX23_act_246 : decode cX23_act 246 = .ok (.areturn, 1) := dk_176 (dk_at dksX23_act_9 12 rfl rfl)
theorem dX23_act_247 : decode cX23_act 247 = .ok (.aload_n 0, 1) := dk_42 (dk_at dksX23_act_9 13 rfl rfl)
theorem dX23_act_248 : decode cX23_act 248 = .ok (.invokevirtual 96, 3) := dk_182 0 96 (dk_at dksX23_act_9 14 rfl rfl)
theorem dX23_act_251 : decode cX23_act 251 = .ok (.istore 4, 2) := dk_54 4 (dk_at dksX23_act_9 17 rfl rfl)
theorem dX23_act_253 : decode cX23_act 253 = .ok (.new 116, 3) := dk_187 0 116 (dk_at dksX23_act_9 19 rfl rfl)
theorem dX23_act_256 : decode cX23_act 256 = .ok (.dup, 1) := dk_89 (dk_at dksX23_act_9 22 rfl rfl)
theorem dX23_act_257 : decode cX23_act 257 = .ok (.iload 4, 2) := dk_21 4 (dk_at dksX23_act_10 0 rfl rfl)
theorem dX23_act_259 : decode cX23_act 259 = .ok (.aload_n 0, 1) := dk_42 (dk_at dksX23_act_10 2 rfl rfl)
theorem dX23_act_260 : decode cX23_act 260 = .ok (.iconst 0, 1) := dk_3 (dk_at dksX23_act_10 3 rfl rfl)
theorem dX23_act_261 : decode cX23_act 261 = .ok (.iconst 5, 1) := dk_8 (dk_at dksX23_act_10 4 rfl rfl)
theorem dX23_act_262 : decode cX23_act 262 = .ok (.invokevirtual 47, 3) := dk_182 0 47 (dk_at dksX23_act_10 5 rfl rfl)
theorem dX23_act_265 : decode cX23_act 265 = .ok (.invokespecial 118, 3) := dk_183 0 118 (dk_at dksX23_act_10 8 rfl rfl)
theorem dX23_act_268 : decode cX23_act 268 = .ok (.areturn, 1) := dk_176 (dk_at dksX23_act_10 11 rfl rfl)
theorem dX23_act_269 : decode cX23_act 269 = .ok (.new 121, 3) := dk_187 0 121 (dk_at dksX23_act_10 12 rfl rfl)
theorem dX23_act_272 : decode cX23_act 272 = .ok (.dup, 1) := dk_89 (dk_at dksX23_act_10 15 rfl rfl)
theorem dX23_act_273 : decode cX23_act 273 = .ok (.invokespecial 123, 3) := dk_183 0 123 (dk_at dksX23_act_10 16 rfl rfl)
theorem dX23_act_276 : decode cX23_act 276 = .ok (.areturn, 1) := dk_176 (dk_at dksX23_act_10 19 rfl rfl)
abbrev cX23_note : ByteArray := prog_31_method_3_code
def yX23_note : MethodName := ⟨RX23, "note", "()I"⟩
def dkwX23_note_0 : List UInt8 := [42, 3, 42, 180, 0, 9, 180, 0, 39, 182, 0, 45, 4, 100, 182, 0, 47, 172]
abbrev dktX23_note_0 : List UInt8 := dkwX23_note_0 ++ []
theorem dksX23_note_0 : cX23_note.data.toList.drop 0 = dktX23_note_0 := by decide +kernel
theorem dX23_note_0 : decode cX23_note 0 = .ok (.aload_n 0, 1) := dk_42 (dk_at dksX23_note_0 0 rfl rfl)
theorem dX23_note_1 : decode cX23_note 1 = .ok (.iconst 0, 1) := dk_3 (dk_at dksX23_note_0 1 rfl rfl)
theorem dX23_note_2 : decode cX23_note 2 = .ok (.aload_n 0, 1) := dk_42 (dk_at dksX23_note_0 2 rfl rfl)
theorem dX23_note_3 : decode cX23_note 3 = .ok (.getfield 9, 3) := dk_180 0 9 (dk_at dksX23_note_0 3 rfl rfl)
theorem dX23_note_6 : decode cX23_note 6 = .ok (.getfield 39, 3) := dk_180 0 39 (dk_at dksX23_note_0 6 rfl rfl)
theorem dX23_note_9 : decode cX23_note 9 = .ok (.invokevirtual 45, 3) := dk_182 0 45 (dk_at dksX23_note_0 9 rfl rfl)
theorem dX23_note_12 : decode cX23_note 12 = .ok (.iconst 1, 1) := dk_4 (dk_at dksX23_note_0 12 rfl rfl)
theorem dX23_note_13 : decode cX23_note 13 = .ok (.isub, 1) := dk_100 (dk_at dksX23_note_0 13 rfl rfl)
theorem dX23_note_14 : decode cX23_note 14 = .ok (.invokevirtual 47, 3) := dk_182 0 47 (dk_at dksX23_note_0 14 rfl rfl)
theorem dX23_note_17 : decode cX23_note 17 = .ok (.ireturn, 1) := dk_172 (dk_at dksX23_note_0 17 rfl rfl)
abbrev cX23_again : ByteArray := prog_31_method_6_code
def yX23_again : MethodName := ⟨RX23, "again", "()LVowelChoir$Step;"⟩
def dkwX23_again_3 : List UInt8 := [176]
abbrev dktX23_again_3 : List UInt8 := dkwX23_again_3 ++ []
def dkwX23_again_2 : List UInt8 := [167, 255, 235, 42, 89, 180, 0, 24, 4, 96, 181, 0, 24, 42, 89, 180, 0, 133, 4, 100, 181, 0, 133, 43]
abbrev dktX23_again_2 : List UInt8 := dkwX23_again_2 ++ dktX23_again_3
def dkwX23_again_1 : List UInt8 := [182, 0, 91, 42, 182, 0, 20, 16, 93, 159, 0, 18, 43, 180, 0, 130, 42, 182, 0, 31, 182, 0, 35, 87]
abbrev dktX23_again_1 : List UInt8 := dkwX23_again_1 ++ dktX23_again_2
def dkwX23_again_0 : List UInt8 := [42, 8, 182, 0, 124, 187, 0, 127, 89, 42, 3, 16, 60, 182, 0, 47, 183, 0, 129, 76, 42, 16, 91]
abbrev dktX23_again_0 : List UInt8 := dkwX23_again_0 ++ dktX23_again_1
theorem dksX23_again_0 : cX23_again.data.toList.drop 0 = dktX23_again_0 := by decide +kernel
theorem dksX23_again_1 : cX23_again.data.toList.drop 23 = dktX23_again_1 := dk_seg dksX23_again_0 23 rfl rfl
theorem dksX23_again_2 : cX23_again.data.toList.drop 47 = dktX23_again_2 := dk_seg dksX23_again_1 24 rfl rfl
theorem dksX23_again_3 : cX23_again.data.toList.drop 71 = dktX23_again_3 := dk_seg dksX23_again_2 24 rfl rfl
theorem dX23_again_0 : decode cX23_again 0 = .ok (.aload_n 0, 1) := dk_42 (dk_at dksX23_again_0 0 rfl rfl)
theorem dX23_again_1 : decode cX23_again 1 = .ok (.iconst 5, 1) := dk_8 (dk_at dksX23_again_0 1 rfl rfl)
theorem dX23_again_2 : decode cX23_again 2 = .ok (.invokevirtual 124, 3) := dk_182 0 124 (dk_at dksX23_again_0 2 rfl rfl)
theorem dX23_again_5 : decode cX23_again 5 = .ok (.new 127, 3) := dk_187 0 127 (dk_at dksX23_again_0 5 rfl rfl)
theorem dX23_again_8 : decode cX23_again 8 = .ok (.dup, 1) := dk_89 (dk_at dksX23_again_0 8 rfl rfl)
theorem dX23_again_9 : decode cX23_again 9 = .ok (.aload_n 0, 1) := dk_42 (dk_at dksX23_again_0 9 rfl rfl)
theorem dX23_again_10 : decode cX23_again 10 = .ok (.iconst 0, 1) := dk_3 (dk_at dksX23_again_0 10 rfl rfl)
theorem dX23_again_11 : decode cX23_again 11 = .ok (.bipush 60, 2) := dk_16 60 (dk_at dksX23_again_0 11 rfl rfl)
theorem dX23_again_13 : decode cX23_again 13 = .ok (.invokevirtual 47, 3) := dk_182 0 47 (dk_at dksX23_again_0 13 rfl rfl)
theorem dX23_again_16 : decode cX23_again 16 = .ok (.invokespecial 129, 3) := dk_183 0 129 (dk_at dksX23_again_0 16 rfl rfl)
theorem dX23_again_19 : decode cX23_again 19 = .ok (.astore_n 1, 1) := dk_76 (dk_at dksX23_again_0 19 rfl rfl)
theorem dX23_again_20 : decode cX23_again 20 = .ok (.aload_n 0, 1) := dk_42 (dk_at dksX23_again_0 20 rfl rfl)
theorem dX23_again_21 : decode cX23_again 21 = .ok (.bipush 91, 2) := dk_16 91 (dk_at dksX23_again_0 21 rfl rfl)
theorem dX23_again_23 : decode cX23_again 23 = .ok (.invokevirtual 91, 3) := dk_182 0 91 (dk_at dksX23_again_1 0 rfl rfl)
theorem dX23_again_26 : decode cX23_again 26 = .ok (.aload_n 0, 1) := dk_42 (dk_at dksX23_again_1 3 rfl rfl)
theorem dX23_again_27 : decode cX23_again 27 = .ok (.invokevirtual 20, 3) := dk_182 0 20 (dk_at dksX23_again_1 4 rfl rfl)
theorem dX23_again_30 : decode cX23_again 30 = .ok (.bipush 93, 2) := dk_16 93 (dk_at dksX23_again_1 7 rfl rfl)
theorem dX23_again_32 : decode cX23_again 32 = .ok (.if_icmp .eq 18, 3) := dk_159 0 18 (dk_at dksX23_again_1 9 rfl rfl)
theorem dX23_again_35 : decode cX23_again 35 = .ok (.aload_n 1, 1) := dk_43 (dk_at dksX23_again_1 12 rfl rfl)
theorem dX23_again_36 : decode cX23_again 36 = .ok (.getfield 130, 3) := dk_180 0 130 (dk_at dksX23_again_1 13 rfl rfl)
theorem dX23_again_39 : decode cX23_again 39 = .ok (.aload_n 0, 1) := dk_42 (dk_at dksX23_again_1 16 rfl rfl)
theorem dX23_again_40 : decode cX23_again 40 = .ok (.invokevirtual 31, 3) := dk_182 0 31 (dk_at dksX23_again_1 17 rfl rfl)
theorem dX23_again_43 : decode cX23_again 43 = .ok (.invokevirtual 35, 3) := dk_182 0 35 (dk_at dksX23_again_1 20 rfl rfl)
theorem dX23_again_46 : decode cX23_again 46 = .ok (.pop, 1) := dk_87 (dk_at dksX23_again_1 23 rfl rfl)
theorem dX23_again_47 : decode cX23_again 47 = .ok (.goto (-21), 3) := dk_167 255 235 (dk_at dksX23_again_2 0 rfl rfl)
theorem dX23_again_50 : decode cX23_again 50 = .ok (.aload_n 0, 1) := dk_42 (dk_at dksX23_again_2 3 rfl rfl)
theorem dX23_again_51 : decode cX23_again 51 = .ok (.dup, 1) := dk_89 (dk_at dksX23_again_2 4 rfl rfl)
theorem dX23_again_52 : decode cX23_again 52 = .ok (.getfield 24, 3) := dk_180 0 24 (dk_at dksX23_again_2 5 rfl rfl)
theorem dX23_again_55 : decode cX23_again 55 = .ok (.iconst 1, 1) := dk_4 (dk_at dksX23_again_2 8 rfl rfl)
theorem dX23_again_56 : decode cX23_again 56 = .ok (.iadd, 1) := dk_96 (dk_at dksX23_again_2 9 rfl rfl)
theorem dX23_again_57 : decode cX23_again 57 = .ok (.putfield 24, 3) := dk_181 0 24 (dk_at dksX23_again_2 10 rfl rfl)
theorem dX23_again_60 : decode cX23_again 60 = .ok (.aload_n 0, 1) := dk_42 (dk_at dksX23_again_2 13 rfl rfl)
theorem dX23_again_61 : decode cX23_again 61 = .ok (.dup, 1) := dk_89 (dk_at dksX23_again_2 14 rfl rfl)
theorem dX23_again_62 : decode cX23_again 62 = .ok (.getfield 133, 3) := dk_180 0 133 (dk_at dksX23_again_2 15 rfl rfl)
theorem dX23_again_65 : decode cX23_again 65 = .ok (.iconst 1, 1) := dk_4 (dk_at dksX23_again_2 18 rfl rfl)
theorem dX23_again_66 : decode cX23_again 66 = .ok (.isub, 1) := dk_100 (dk_at dksX23_again_2 19 rfl rfl)
theorem dX23_again_67 : decode cX23_again 67 = .ok (.putfield 133, 3) := dk_181 0 133 (dk_at dksX23_again_2 20 rfl rfl)
theorem dX23_again_70 : decode cX23_again 70 = .ok (.aload_n 1, 1) := dk_43 (dk_at dksX23_again_2 23 rfl rfl)
theorem dX23_again_71 : decode cX23_again 71 = .ok (.areturn, 1) := dk_176 (dk_at dksX23_again_3 0 rfl rfl)
theorem q141 : (Jvm.Cond.initialized "VowelChoir$WorkReader") ∈ lw_all := lw_g (lw_at lw_m1 43 rfl) rfl
theorem q512 : (Jvm.Cond.fieldLinkNest "VowelChoir$WorkReader" (110 : Nat) "VowelChoir$Told" "singers" "Ljava/util/ArrayList;" "VowelChoir") ∈ lw_tbl := lw_at lw_m2 174 rfl
theorem q514 : (Jvm.Cond.fieldLinkNest "VowelChoir$WorkReader" (39 : Nat) "VowelChoir$Told" "notes" "Ljava/util/ArrayList;" "VowelChoir") ∈ lw_tbl := lw_at lw_m2 176 rfl
theorem q954 : (Jvm.Cond.fieldLink "VowelChoir$WorkReader" (28 : Nat) "VowelChoir$WorkReader" "size" "I") ∈ lw_all := lw_g (lw_at lw_m4 136 rfl) rfl
theorem q955 : (Jvm.Cond.sameField "VowelChoir$WorkReader" "VowelChoir$Reader" "size" "I") ∈ lw_all := lw_g (lw_at lw_m4 137 rfl) rfl
theorem q963 : (Jvm.Cond.fieldLink "VowelChoir$WorkReader" (24 : Nat) "VowelChoir$WorkReader" "next" "I") ∈ lw_all := lw_g (lw_at lw_m4 145 rfl) rfl
theorem q964 : (Jvm.Cond.sameField "VowelChoir$WorkReader" "VowelChoir$Reader" "next" "I") ∈ lw_all := lw_g (lw_at lw_m4 146 rfl) rfl
theorem q973 : (Jvm.Cond.fieldLink "VowelChoir$WorkReader" (133 : Nat) "VowelChoir$WorkReader" "open" "I") ∈ lw_all := lw_g (lw_at lw_m4 155 rfl) rfl
theorem q974 : (Jvm.Cond.sameField "VowelChoir$WorkReader" "VowelChoir$Reader" "open" "I") ∈ lw_all := lw_g (lw_at lw_m4 156 rfl) rfl
theorem q1229 : (Jvm.Cond.selects "VowelChoir$WorkReader" ({ cls := "java/lang/Object", name := "getClass", desc := "()Ljava/lang/Class;" } : Jvm.MethodName) ({ cls := "java/lang/Object", name := "getClass", desc := "()Ljava/lang/Class;" } : Jvm.MethodName)) ∈ lw_all := lw_g (lw_at lw_m5 171 rfl) rfl
theorem q1454 : (Jvm.Cond.instantiable "VowelChoir$WorkReader" (6 : Nat)) ∈ lw_all := lw_g (lw_at lw_m6 156 rfl) rfl
theorem q1456 : (Jvm.Cond.instanceMethod ({ cls := "VowelChoir$WorkReader", name := "<init>", desc := "([BILVowelChoir$Told;)V" } : Jvm.MethodName)) ∈ lw_all := lw_g (lw_at lw_m6 158 rfl) rfl
theorem q1457 : (Jvm.Cond.code ({ cls := "VowelChoir$WorkReader", name := "<init>", desc := "([BILVowelChoir$Told;)V" } : Jvm.MethodName) prog_31_method_1_code (4 : Nat) (Option.none : Option Jvm.ClassFile.FieldType)) ∈ lw_all := lw_g (lw_at lw_m6 159 rfl) rfl
theorem q1458 : (Jvm.Cond.methodLink "VowelChoir$WorkReader" (3 : Nat) ({ cls := "VowelChoir$Reader", name := "<init>", desc := "([BI)V" } : Jvm.MethodName)) ∈ lw_all := lw_g (lw_at lw_m6 160 rfl) rfl
theorem q1459 : (Jvm.Cond.fieldLink "VowelChoir$WorkReader" (9 : Nat) "VowelChoir$WorkReader" "t" "LVowelChoir$Told;") ∈ lw_all := lw_g (lw_at lw_m6 161 rfl) rfl
theorem q1460 : (Jvm.Cond.laysFinal "VowelChoir$WorkReader" "VowelChoir$WorkReader" "t" "LVowelChoir$Told;") ∈ lw_all := lw_g (lw_at lw_m6 162 rfl) rfl
theorem q1461 : (Jvm.Cond.soleField "VowelChoir$WorkReader" "t") ∈ lw_all := lw_g (lw_at lw_m6 163 rfl) rfl
theorem q1462 : (Jvm.Cond.laysFinal "VowelChoir$WorkReader" "VowelChoir$Reader" "text" "[B") ∈ lw_all := lw_g (lw_at lw_m6 164 rfl) rfl
theorem q1463 : (Jvm.Cond.laysFinal "VowelChoir$WorkReader" "VowelChoir$Reader" "size" "I") ∈ lw_all := lw_g (lw_at lw_m6 165 rfl) rfl
theorem q1464 : (Jvm.Cond.lays "VowelChoir$WorkReader" "VowelChoir$Reader" "next" "I") ∈ lw_all := lw_g (lw_at lw_m6 166 rfl) rfl
theorem q1465 : (Jvm.Cond.lays "VowelChoir$WorkReader" "VowelChoir$Reader" "from" "I") ∈ lw_all := lw_g (lw_at lw_m6 167 rfl) rfl
theorem q1466 : (Jvm.Cond.lays "VowelChoir$WorkReader" "VowelChoir$Reader" "open" "I") ∈ lw_all := lw_g (lw_at lw_m6 168 rfl) rfl
theorem q1467 : (Jvm.Cond.superclass "VowelChoir$WorkReader" "VowelChoir$Reader") ∈ lw_all := lw_g (lw_at lw_m6 169 rfl) rfl
theorem q1469 : (Jvm.Cond.instanceMethod ({ cls := "VowelChoir$WorkReader", name := "reads", desc := "()Ljava/util/ArrayList;" } : Jvm.MethodName)) ∈ lw_all := lw_g (lw_at lw_m6 171 rfl) rfl
theorem q1470 : (Jvm.Cond.selects "VowelChoir$WorkReader" ({ cls := "VowelChoir$WorkReader", name := "reads", desc := "()Ljava/util/ArrayList;" } : Jvm.MethodName) ({ cls := "VowelChoir$WorkReader", name := "reads", desc := "()Ljava/util/ArrayList;" } : Jvm.MethodName)) ∈ lw_all := lw_g (lw_at lw_m6 172 rfl) rfl
theorem q1471 : (Jvm.Cond.code ({ cls := "VowelChoir$WorkReader", name := "reads", desc := "()Ljava/util/ArrayList;" } : Jvm.MethodName) prog_31_method_2_code (2 : Nat) (Option.some (Jvm.ClassFile.FieldType.object "java/util/ArrayList"))) ∈ lw_all := lw_g (lw_at lw_m6 173 rfl) rfl
theorem q1472 : (Jvm.Cond.classLink "VowelChoir$WorkReader" (15 : Nat) "java/util/ArrayList") ∈ lw_all := lw_g (lw_at lw_m6 174 rfl) rfl
theorem q1473 : (Jvm.Cond.methodLink "VowelChoir$WorkReader" (17 : Nat) ({ cls := "java/util/ArrayList", name := "<init>", desc := "(I)V" } : Jvm.MethodName)) ∈ lw_all := lw_g (lw_at lw_m6 175 rfl) rfl
theorem q1474 : (Jvm.Cond.methodLink "VowelChoir$WorkReader" (20 : Nat) ({ cls := "VowelChoir$WorkReader", name := "sign", desc := "()I" } : Jvm.MethodName)) ∈ lw_all := lw_g (lw_at lw_m6 176 rfl) rfl
theorem q1475 : (Jvm.Cond.sameMethod "VowelChoir$WorkReader" "VowelChoir$Reader" "sign" "()I") ∈ lw_all := lw_g (lw_at lw_m6 177 rfl) rfl
theorem q1476 : (Jvm.Cond.selects "VowelChoir$WorkReader" ({ cls := "VowelChoir$WorkReader", name := "sign", desc := "()I" } : Jvm.MethodName) ({ cls := "VowelChoir$Reader", name := "sign", desc := "()I" } : Jvm.MethodName)) ∈ lw_all := lw_g (lw_at lw_m6 178 rfl) rfl
theorem q1477 : (Jvm.Cond.methodLink "VowelChoir$WorkReader" (31 : Nat) ({ cls := "VowelChoir$WorkReader", name := "step", desc := "()LVowelChoir$Step;" } : Jvm.MethodName)) ∈ lw_all := lw_g (lw_at lw_m6 179 rfl) rfl
theorem q1478 : (Jvm.Cond.privateMethod ({ cls := "VowelChoir$WorkReader", name := "step", desc := "()LVowelChoir$Step;" } : Jvm.MethodName)) ∈ lw_tbl := lw_at lw_m6 180 rfl
theorem q1479 : (Jvm.Cond.instanceMethod ({ cls := "VowelChoir$WorkReader", name := "step", desc := "()LVowelChoir$Step;" } : Jvm.MethodName)) ∈ lw_all := lw_g (lw_at lw_m6 181 rfl) rfl
theorem q1480 : (Jvm.Cond.code ({ cls := "VowelChoir$WorkReader", name := "step", desc := "()LVowelChoir$Step;" } : Jvm.MethodName) prog_31_method_4_code (5 : Nat) (Option.some (Jvm.ClassFile.FieldType.object "VowelChoir$Step"))) ∈ lw_all := lw_g (lw_at lw_m6 182 rfl) rfl
theorem q1481 : (Jvm.Cond.methodLink "VowelChoir$WorkReader" (51 : Nat) ({ cls := "VowelChoir$WorkReader", name := "word", desc := "()Ljava/lang/String;" } : Jvm.MethodName)) ∈ lw_all := lw_g (lw_at lw_m6 183 rfl) rfl
theorem q1482 : (Jvm.Cond.sameMethod "VowelChoir$WorkReader" "VowelChoir$Reader" "word" "()Ljava/lang/String;") ∈ lw_all := lw_g (lw_at lw_m6 184 rfl) rfl
theorem q1483 : (Jvm.Cond.selects "VowelChoir$WorkReader" ({ cls := "VowelChoir$WorkReader", name := "word", desc := "()Ljava/lang/String;" } : Jvm.MethodName) ({ cls := "VowelChoir$Reader", name := "word", desc := "()Ljava/lang/String;" } : Jvm.MethodName)) ∈ lw_all := lw_g (lw_at lw_m6 185 rfl) rfl
theorem q1484 : (Jvm.Cond.methodLink "VowelChoir$WorkReader" (55 : Nat) ({ cls := "java/lang/String", name := "hashCode", desc := "()I" } : Jvm.MethodName)) ∈ lw_all := lw_g (lw_at lw_m6 186 rfl) rfl
theorem q1485 : (Jvm.Cond.stringRef "VowelChoir$WorkReader" (60 : Nat) "sing") ∈ lw_tbl := lw_at lw_m6 187 rfl
theorem q1486 : (Jvm.Cond.methodLink "VowelChoir$WorkReader" (62 : Nat) ({ cls := "java/lang/String", name := "equals", desc := "(Ljava/lang/Object;)Z" } : Jvm.MethodName)) ∈ lw_all := lw_g (lw_at lw_m6 188 rfl) rfl
theorem q1487 : (Jvm.Cond.stringRef "VowelChoir$WorkReader" (65 : Nat) "hymn") ∈ lw_tbl := lw_at lw_m6 189 rfl
theorem q1488 : (Jvm.Cond.stringRef "VowelChoir$WorkReader" (67 : Nat) "rest") ∈ lw_tbl := lw_at lw_m6 190 rfl
theorem q1489 : (Jvm.Cond.stringRef "VowelChoir$WorkReader" (69 : Nat) "hoarse") ∈ lw_tbl := lw_at lw_m6 191 rfl
theorem q1490 : (Jvm.Cond.stringRef "VowelChoir$WorkReader" (71 : Nat) "cure") ∈ lw_tbl := lw_at lw_m6 192 rfl
theorem q1491 : (Jvm.Cond.stringRef "VowelChoir$WorkReader" (73 : Nat) "word") ∈ lw_tbl := lw_at lw_m6 193 rfl
theorem q1492 : (Jvm.Cond.stringRef "VowelChoir$WorkReader" (74 : Nat) "day") ∈ lw_tbl := lw_at lw_m6 194 rfl
theorem q1493 : (Jvm.Cond.stringRef "VowelChoir$WorkReader" (76 : Nat) "again") ∈ lw_tbl := lw_at lw_m6 195 rfl
theorem q1494 : (Jvm.Cond.methodLink "VowelChoir$WorkReader" (78 : Nat) ({ cls := "java/lang/String", name := "length", desc := "()I" } : Jvm.MethodName)) ∈ lw_all := lw_g (lw_at lw_m6 196 rfl) rfl
theorem q1495 : (Jvm.Cond.methodLink "VowelChoir$WorkReader" (81 : Nat) ({ cls := "VowelChoir$WorkReader", name := "act", desc := "(Ljava/lang/String;)LVowelChoir$Step;" } : Jvm.MethodName)) ∈ lw_all := lw_g (lw_at lw_m6 197 rfl) rfl
theorem q1496 : (Jvm.Cond.privateMethod ({ cls := "VowelChoir$WorkReader", name := "act", desc := "(Ljava/lang/String;)LVowelChoir$Step;" } : Jvm.MethodName)) ∈ lw_tbl := lw_at lw_m6 198 rfl
theorem q1497 : (Jvm.Cond.instanceMethod ({ cls := "VowelChoir$WorkReader", name := "act", desc := "(Ljava/lang/String;)LVowelChoir$Step;" } : Jvm.MethodName)) ∈ lw_all := lw_g (lw_at lw_m6 199 rfl) rfl
theorem q1498 : (Jvm.Cond.code ({ cls := "VowelChoir$WorkReader", name := "act", desc := "(Ljava/lang/String;)LVowelChoir$Step;" } : Jvm.MethodName) prog_31_method_5_code (5 : Nat) (Option.some (Jvm.ClassFile.FieldType.object "VowelChoir$Step"))) ∈ lw_all := lw_g (lw_at lw_m6 200 rfl) rfl
theorem q1499 : (Jvm.Cond.classLink "VowelChoir$WorkReader" (94 : Nat) "VowelChoir$Sings") ∈ lw_all := lw_g (lw_at lw_m6 201 rfl) rfl
theorem q1501 : (Jvm.Cond.methodLink "VowelChoir$WorkReader" (96 : Nat) ({ cls := "VowelChoir$WorkReader", name := "note", desc := "()I" } : Jvm.MethodName)) ∈ lw_all := lw_g (lw_at lw_m6 203 rfl) rfl
theorem q1502 : (Jvm.Cond.privateMethod ({ cls := "VowelChoir$WorkReader", name := "note", desc := "()I" } : Jvm.MethodName)) ∈ lw_tbl := lw_at lw_m6 204 rfl
theorem q1503 : (Jvm.Cond.instanceMethod ({ cls := "VowelChoir$WorkReader", name := "note", desc := "()I" } : Jvm.MethodName)) ∈ lw_all := lw_g (lw_at lw_m6 205 rfl) rfl
theorem q1504 : (Jvm.Cond.code ({ cls := "VowelChoir$WorkReader", name := "note", desc := "()I" } : Jvm.MethodName) prog_31_method_3_code (1 : Nat) (Option.some Jvm.ClassFile.FieldType.int)) ∈ lw_all := lw_g (lw_at lw_m6 206 rfl) rfl
theorem q1505 : (Jvm.Cond.methodLink "VowelChoir$WorkReader" (45 : Nat) ({ cls := "java/util/ArrayList", name := "size", desc := "()I" } : Jvm.MethodName)) ∈ lw_all := lw_g (lw_at lw_m6 207 rfl) rfl
theorem q1506 : (Jvm.Cond.methodLink "VowelChoir$WorkReader" (47 : Nat) ({ cls := "VowelChoir$WorkReader", name := "number", desc := "(II)I" } : Jvm.MethodName)) ∈ lw_all := lw_g (lw_at lw_m6 208 rfl) rfl
theorem q1507 : (Jvm.Cond.sameMethod "VowelChoir$WorkReader" "VowelChoir$Reader" "number" "(II)I") ∈ lw_all := lw_g (lw_at lw_m6 209 rfl) rfl
theorem q1508 : (Jvm.Cond.selects "VowelChoir$WorkReader" ({ cls := "VowelChoir$WorkReader", name := "number", desc := "(II)I" } : Jvm.MethodName) ({ cls := "VowelChoir$Reader", name := "number", desc := "(II)I" } : Jvm.MethodName)) ∈ lw_all := lw_g (lw_at lw_m6 210 rfl) rfl
theorem q1509 : (Jvm.Cond.methodLink "VowelChoir$WorkReader" (99 : Nat) ({ cls := "VowelChoir$Sings", name := "<init>", desc := "(I)V" } : Jvm.MethodName)) ∈ lw_all := lw_g (lw_at lw_m6 211 rfl) rfl
theorem q1523 : (Jvm.Cond.classLink "VowelChoir$WorkReader" (100 : Nat) "VowelChoir$Hymn") ∈ lw_all := lw_g (lw_at lw_m6 225 rfl) rfl
theorem q1525 : (Jvm.Cond.methodLinkNest "VowelChoir$WorkReader" (102 : Nat) ({ cls := "VowelChoir$Hymn", name := "<init>", desc := "()V" } : Jvm.MethodName) "VowelChoir") ∈ lw_tbl := lw_at lw_m6 227 rfl
theorem q1530 : (Jvm.Cond.classLink "VowelChoir$WorkReader" (105 : Nat) "VowelChoir$Rests") ∈ lw_all := lw_g (lw_at lw_m6 232 rfl) rfl
theorem q1532 : (Jvm.Cond.methodLinkNest "VowelChoir$WorkReader" (107 : Nat) ({ cls := "VowelChoir$Rests", name := "<init>", desc := "()V" } : Jvm.MethodName) "VowelChoir") ∈ lw_tbl := lw_at lw_m6 234 rfl
theorem q1537 : (Jvm.Cond.classLink "VowelChoir$WorkReader" (108 : Nat) "VowelChoir$Turns") ∈ lw_all := lw_g (lw_at lw_m6 239 rfl) rfl
theorem q1539 : (Jvm.Cond.methodLink "VowelChoir$WorkReader" (113 : Nat) ({ cls := "VowelChoir$Turns", name := "<init>", desc := "(IZ)V" } : Jvm.MethodName)) ∈ lw_all := lw_g (lw_at lw_m7 1 rfl) rfl
theorem q1550 : (Jvm.Cond.classLink "VowelChoir$WorkReader" (116 : Nat) "VowelChoir$Words") ∈ lw_all := lw_g (lw_at lw_m7 12 rfl) rfl
theorem q1552 : (Jvm.Cond.methodLink "VowelChoir$WorkReader" (118 : Nat) ({ cls := "VowelChoir$Words", name := "<init>", desc := "(II)V" } : Jvm.MethodName)) ∈ lw_all := lw_g (lw_at lw_m7 14 rfl) rfl
theorem q1563 : (Jvm.Cond.classLink "VowelChoir$WorkReader" (121 : Nat) "VowelChoir$Passes") ∈ lw_all := lw_g (lw_at lw_m7 25 rfl) rfl
theorem q1565 : (Jvm.Cond.methodLinkNest "VowelChoir$WorkReader" (123 : Nat) ({ cls := "VowelChoir$Passes", name := "<init>", desc := "()V" } : Jvm.MethodName) "VowelChoir") ∈ lw_tbl := lw_at lw_m7 27 rfl
theorem q1570 : (Jvm.Cond.methodLink "VowelChoir$WorkReader" (85 : Nat) ({ cls := "VowelChoir$WorkReader", name := "again", desc := "()LVowelChoir$Step;" } : Jvm.MethodName)) ∈ lw_all := lw_g (lw_at lw_m7 32 rfl) rfl
theorem q1571 : (Jvm.Cond.privateMethod ({ cls := "VowelChoir$WorkReader", name := "again", desc := "()LVowelChoir$Step;" } : Jvm.MethodName)) ∈ lw_tbl := lw_at lw_m7 33 rfl
theorem q1572 : (Jvm.Cond.instanceMethod ({ cls := "VowelChoir$WorkReader", name := "again", desc := "()LVowelChoir$Step;" } : Jvm.MethodName)) ∈ lw_all := lw_g (lw_at lw_m7 34 rfl) rfl
theorem q1573 : (Jvm.Cond.code ({ cls := "VowelChoir$WorkReader", name := "again", desc := "()LVowelChoir$Step;" } : Jvm.MethodName) prog_31_method_6_code (2 : Nat) (Option.some (Jvm.ClassFile.FieldType.object "VowelChoir$Step"))) ∈ lw_all := lw_g (lw_at lw_m7 35 rfl) rfl
theorem q1574 : (Jvm.Cond.methodLink "VowelChoir$WorkReader" (124 : Nat) ({ cls := "VowelChoir$WorkReader", name := "opens", desc := "(I)V" } : Jvm.MethodName)) ∈ lw_all := lw_g (lw_at lw_m7 36 rfl) rfl
theorem q1575 : (Jvm.Cond.sameMethod "VowelChoir$WorkReader" "VowelChoir$Reader" "opens" "(I)V") ∈ lw_all := lw_g (lw_at lw_m7 37 rfl) rfl
theorem q1576 : (Jvm.Cond.selects "VowelChoir$WorkReader" ({ cls := "VowelChoir$WorkReader", name := "opens", desc := "(I)V" } : Jvm.MethodName) ({ cls := "VowelChoir$Reader", name := "opens", desc := "(I)V" } : Jvm.MethodName)) ∈ lw_all := lw_g (lw_at lw_m7 38 rfl) rfl
theorem q1577 : (Jvm.Cond.classLink "VowelChoir$WorkReader" (127 : Nat) "VowelChoir$Again") ∈ lw_all := lw_g (lw_at lw_m7 39 rfl) rfl
theorem q1579 : (Jvm.Cond.methodLink "VowelChoir$WorkReader" (129 : Nat) ({ cls := "VowelChoir$Again", name := "<init>", desc := "(I)V" } : Jvm.MethodName)) ∈ lw_all := lw_g (lw_at lw_m7 41 rfl) rfl
theorem q1587 : (Jvm.Cond.fieldLinkNest "VowelChoir$WorkReader" (130 : Nat) "VowelChoir$Again" "steps" "Ljava/util/ArrayList;" "VowelChoir") ∈ lw_tbl := lw_at lw_m7 49 rfl
theorem q1593 : (Jvm.Cond.methodLink "VowelChoir$WorkReader" (91 : Nat) ({ cls := "VowelChoir$WorkReader", name := "need", desc := "(I)V" } : Jvm.MethodName)) ∈ lw_all := lw_g (lw_at lw_m7 55 rfl) rfl
theorem q1594 : (Jvm.Cond.sameMethod "VowelChoir$WorkReader" "VowelChoir$Reader" "need" "(I)V") ∈ lw_all := lw_g (lw_at lw_m7 56 rfl) rfl
theorem q1595 : (Jvm.Cond.selects "VowelChoir$WorkReader" ({ cls := "VowelChoir$WorkReader", name := "need", desc := "(I)V" } : Jvm.MethodName) ({ cls := "VowelChoir$Reader", name := "need", desc := "(I)V" } : Jvm.MethodName)) ∈ lw_all := lw_g (lw_at lw_m7 57 rfl) rfl
theorem q1596 : (Jvm.Cond.methodLink "VowelChoir$WorkReader" (35 : Nat) ({ cls := "java/util/ArrayList", name := "add", desc := "(Ljava/lang/Object;)Z" } : Jvm.MethodName)) ∈ lw_all := lw_g (lw_at lw_m7 58 rfl) rfl
theorem q1597 : (Jvm.Cond.methodLink "VowelChoir$WorkReader" (87 : Nat) ({ cls := "VowelChoir$WorkReader", name := "wrong", desc := "()LVowelChoir$Wrong;" } : Jvm.MethodName)) ∈ lw_all := lw_g (lw_at lw_m7 59 rfl) rfl
theorem q1598 : (Jvm.Cond.sameMethod "VowelChoir$WorkReader" "VowelChoir$Reader" "wrong" "()LVowelChoir$Wrong;") ∈ lw_all := lw_g (lw_at lw_m7 60 rfl) rfl
theorem q1599 : (Jvm.Cond.selects "VowelChoir$WorkReader" ({ cls := "VowelChoir$WorkReader", name := "wrong", desc := "()LVowelChoir$Wrong;" } : Jvm.MethodName) ({ cls := "VowelChoir$Reader", name := "wrong", desc := "()LVowelChoir$Wrong;" } : Jvm.MethodName)) ∈ lw_all := lw_g (lw_at lw_m7 61 rfl) rfl
theorem q2619 : (Jvm.Cond.selects "VowelChoir$WorkReader" ({ cls := "VowelChoir$Reader", name := "sign", desc := "()I" } : Jvm.MethodName) ({ cls := "VowelChoir$Reader", name := "sign", desc := "()I" } : Jvm.MethodName)) ∈ lw_all := lw_g (lw_at lw_m11 121 rfl) rfl
theorem q2626 : (Jvm.Cond.selects "VowelChoir$WorkReader" ({ cls := "VowelChoir$Reader", name := "wrong", desc := "()LVowelChoir$Wrong;" } : Jvm.MethodName) ({ cls := "VowelChoir$Reader", name := "wrong", desc := "()LVowelChoir$Wrong;" } : Jvm.MethodName)) ∈ lw_all := lw_g (lw_at lw_m11 128 rfl) rfl
theorem q2659 : (Jvm.Cond.castable "VowelChoir$WorkReader" "java/lang/Object") ∈ lw_tbl := lw_at lw_m11 161 rfl
theorem in_X23 : ∀ w ∈ wsX230, w ∈ lw_all := lw_in wsX230 [1462, 1463, 1464, 1465, 1466, 1460] (by decide +kernel) (by decide +kernel)
/-! VowelChoir$Step -/
set_option maxRecDepth 100000
def RX24 : String := "VowelChoir$Step"
abbrev cX24_init : ByteArray := prog_24_method_1_code
def yX24_init : MethodName := ⟨RX24, "<init>", "()V"⟩
theorem dX24_init_0 : decode cX24_init 0 = .ok (.aload_n 0, 1) := by decide +kernel
theorem dX24_init_1 : decode cX24_init 1 = .ok (.invokespecial 3, 3) := by decide +kernel
theorem dX24_init_4 : decode cX24_init 4 = .ok (.return_, 1) := by decide +kernel
abbrev cX24_may : ByteArray := prog_24_method_3_code
def yX24_may : MethodName := ⟨RX24, "may", "(LVowelChoir$Choir;)Z"⟩
def dkwX24_may_0 : List UInt8 := [42, 180, 0, 9, 17, 0, 200, 160, 0, 5, 3, 172, 42, 89, 180, 0, 9, 4, 96, 181, 0, 9, 4, 172]
abbrev dktX24_may_0 : List UInt8 := dkwX24_may_0 ++ []
theorem dksX24_may_0 : cX24_may.data.toList.drop 0 = dktX24_may_0 := by decide +kernel
theorem dX24_may_0 : decode cX24_may 0 = .ok (.aload_n 0, 1) := dk_42 (dk_at dksX24_may_0 0 rfl rfl)
theorem dX24_may_1 : decode cX24_may 1 = .ok (.getfield 9, 3) := dk_180 0 9 (dk_at dksX24_may_0 1 rfl rfl)
theorem dX24_may_4 : decode cX24_may 4 = .ok (.sipush 200, 3) := dk_17 0 200 (dk_at dksX24_may_0 4 rfl rfl)
theorem dX24_may_7 : decode cX24_may 7 = .ok (.if_icmp .ne 5, 3) := dk_160 0 5 (dk_at dksX24_may_0 7 rfl rfl)
theorem dX24_may_10 : decode cX24_may 10 = .ok (.iconst 0, 1) := dk_3 (dk_at dksX24_may_0 10 rfl rfl)
theorem dX24_may_11 : decode cX24_may 11 = .ok (.ireturn, 1) := dk_172 (dk_at dksX24_may_0 11 rfl rfl)
theorem dX24_may_12 : decode cX24_may 12 = .ok (.aload_n 0, 1) := dk_42 (dk_at dksX24_may_0 12 rfl rfl)
theorem dX24_may_13 : decode cX24_may 13 = .ok (.dup, 1) := dk_89 (dk_at dksX24_may_0 13 rfl rfl)
theorem dX24_may_14 : decode cX24_may 14 = .ok (.getfield 9, 3) := dk_180 0 9 (dk_at dksX24_may_0 14 rfl rfl)
theorem dX24_may_17 : decode cX24_may 17 = .ok (.iconst 1, 1) := dk_4 (dk_at dksX24_may_0 17 rfl rfl)
theorem dX24_may_18 : decode cX24_may 18 = .ok (.iadd, 1) := dk_96 (dk_at dksX24_may_0 18 rfl rfl)
theorem dX24_may_19 : decode cX24_may 19 = .ok (.putfield 9, 3) := dk_181 0 9 (dk_at dksX24_may_0 19 rfl rfl)
theorem dX24_may_22 : decode cX24_may 22 = .ok (.iconst 1, 1) := dk_4 (dk_at dksX24_may_0 22 rfl rfl)
theorem dX24_may_23 : decode cX24_may 23 = .ok (.ireturn, 1) := dk_172 (dk_at dksX24_may_0 23 rfl rfl)
theorem q142 : (Jvm.Cond.initialized "VowelChoir$Step") ∈ lw_all := lw_g (lw_at lw_m1 44 rfl) rfl
theorem q574 : (Jvm.Cond.fieldLinkNest "VowelChoir$Step" (9 : Nat) "VowelChoir$Choir" "steps" "I" "VowelChoir") ∈ lw_tbl := lw_at lw_m2 236 rfl
theorem q1516 : (Jvm.Cond.instanceMethod ({ cls := "VowelChoir$Step", name := "<init>", desc := "()V" } : Jvm.MethodName)) ∈ lw_all := lw_g (lw_at lw_m6 218 rfl) rfl
theorem q1517 : (Jvm.Cond.code ({ cls := "VowelChoir$Step", name := "<init>", desc := "()V" } : Jvm.MethodName) prog_24_method_1_code (1 : Nat) (Option.none : Option Jvm.ClassFile.FieldType)) ∈ lw_all := lw_g (lw_at lw_m6 219 rfl) rfl
theorem q1518 : (Jvm.Cond.methodLink "VowelChoir$Step" (3 : Nat) ({ cls := "java/lang/Object", name := "<init>", desc := "()V" } : Jvm.MethodName)) ∈ lw_all := lw_g (lw_at lw_m6 220 rfl) rfl
theorem q1602 : (Jvm.Cond.declares ({ cls := "VowelChoir$Step", name := "goes", desc := "(LVowelChoir$Choir;)V" } : Jvm.MethodName)) ∈ lw_tbl := lw_at lw_m7 64 rfl
theorem q1603 : (Jvm.Cond.sameMethod "VowelChoir$Step" "VowelChoir$Step" "goes" "(LVowelChoir$Choir;)V") ∈ lw_all := lw_g (lw_at lw_m7 65 rfl) rfl
theorem q1609 : (Jvm.Cond.static ({ cls := "VowelChoir$Step", name := "may", desc := "(LVowelChoir$Choir;)Z" } : Jvm.MethodName)) ∈ lw_all := lw_g (lw_at lw_m7 71 rfl) rfl
theorem q1610 : (Jvm.Cond.code ({ cls := "VowelChoir$Step", name := "may", desc := "(LVowelChoir$Choir;)Z" } : Jvm.MethodName) prog_24_method_3_code (1 : Nat) (Option.some Jvm.ClassFile.FieldType.boolean)) ∈ lw_all := lw_g (lw_at lw_m7 72 rfl) rfl
/-! VowelChoir$Act -/
set_option maxRecDepth 100000
def RX25 : String := "VowelChoir$Act"
abbrev cX25_init : ByteArray := prog_2_method_1_code
def yX25_init : MethodName := ⟨RX25, "<init>", "()V"⟩
theorem dX25_init_0 : decode cX25_init 0 = .ok (.aload_n 0, 1) := by decide +kernel
theorem dX25_init_1 : decode cX25_init 1 = .ok (.invokespecial 1, 3) := by decide +kernel
theorem dX25_init_4 : decode cX25_init 4 = .ok (.return_, 1) := by decide +kernel
abbrev cX25_goes : ByteArray := prog_2_method_3_code
def yX25_goes : MethodName := ⟨RX25, "goes", "(LVowelChoir$Choir;)V"⟩
def dkwX25_goes_2 : List UInt8 := [181, 0, 22, 177]
abbrev dktX25_goes_2 : List UInt8 := dkwX25_goes_2 ++ []
def dkwX25_goes_1 : List UInt8 := [167, 0, 4, 3, 96, 181, 0, 16, 43, 89, 180, 0, 22, 28, 153, 0, 7, 3, 167, 0, 4, 4, 96]
abbrev dktX25_goes_1 : List UInt8 := dkwX25_goes_1 ++ dktX25_goes_2
def dkwX25_goes_0 : List UInt8 := [43, 184, 0, 7, 154, 0, 4, 177, 42, 43, 182, 0, 13, 61, 43, 89, 180, 0, 16, 28, 153, 0, 7, 4]
abbrev dktX25_goes_0 : List UInt8 := dkwX25_goes_0 ++ dktX25_goes_1
theorem dksX25_goes_0 : cX25_goes.data.toList.drop 0 = dktX25_goes_0 := by decide +kernel
theorem dksX25_goes_1 : cX25_goes.data.toList.drop 24 = dktX25_goes_1 := dk_seg dksX25_goes_0 24 rfl rfl
theorem dksX25_goes_2 : cX25_goes.data.toList.drop 47 = dktX25_goes_2 := dk_seg dksX25_goes_1 23 rfl rfl
theorem dX25_goes_0 : decode cX25_goes 0 = .ok (.aload_n 1, 1) := dk_43 (dk_at dksX25_goes_0 0 rfl rfl)
theorem dX25_goes_1 : decode cX25_goes 1 = .ok (.invokestatic 7, 3) := dk_184 0 7 (dk_at dksX25_goes_0 1 rfl rfl)
theorem dX25_goes_4 : decode cX25_goes 4 = .ok (.ifCond .ne 4, 3) := dk_154 0 4 (dk_at dksX25_goes_0 4 rfl rfl)
theorem dX25_goes_7 : decode cX25_goes 7 = .ok (.return_, 1) := dk_177 (dk_at dksX25_goes_0 7 rfl rfl)
theorem dX25_goes_8 : decode cX25_goes 8 = .ok (.aload_n 0, 1) := dk_42 (dk_at dksX25_goes_0 8 rfl rfl)
theorem dX25_goes_9 : decode cX25_goes 9 = .ok (.aload_n 1, 1) := dk_43 (dk_at dksX25_goes_0 9 rfl rfl)
theorem dX25_goes_10 : decode cX25_goes 10 = .ok (.invokevirtual 13, 3) := dk_182 0 13 (dk_at dksX25_goes_0 10 rfl rfl)
theorem dX25_goes_13 : decode cX25_goes 13 = .ok (.istore_n 2, 1) := dk_61 (dk_at dksX25_goes_0 13 rfl rfl)
theorem dX25_goes_14 : decode cX25_goes 14 = .ok (.aload_n 1, 1) := dk_43 (dk_at dksX25_goes_0 14 rfl rfl)
theorem dX25_goes_15 : decode cX25_goes 15 = .ok (.dup, 1) := dk_89 (dk_at dksX25_goes_0 15 rfl rfl)
theorem dX25_goes_16 : decode cX25_goes 16 = .ok (.getfield 16, 3) := dk_180 0 16 (dk_at dksX25_goes_0 16 rfl rfl)
theorem dX25_goes_19 : decode cX25_goes 19 = .ok (.iload_n 2, 1) := dk_28 (dk_at dksX25_goes_0 19 rfl rfl)
theorem dX25_goes_20 : decode cX25_goes 20 = .ok (.ifCond .eq 7, 3) := dk_153 0 7 (dk_at dksX25_goes_0 20 rfl rfl)
theorem dX25_goes_23 : decode cX25_goes 23 = .ok (.iconst 1, 1) := dk_4 (dk_at dksX25_goes_0 23 rfl rfl)
theorem dX25_goes_24 : decode cX25_goes 24 = .ok (.goto 4, 3) := dk_167 0 4 (dk_at dksX25_goes_1 0 rfl rfl)
theorem dX25_goes_27 : decode cX25_goes 27 = .ok (.iconst 0, 1) := dk_3 (dk_at dksX25_goes_1 3 rfl rfl)
theorem dX25_goes_28 : decode cX25_goes 28 = .ok (.iadd, 1) := dk_96 (dk_at dksX25_goes_1 4 rfl rfl)
theorem dX25_goes_29 : decode cX25_goes 29 = .ok (.putfield 16, 3) := dk_181 0 16 (dk_at dksX25_goes_1 5 rfl rfl)
theorem dX25_goes_32 : decode cX25_goes 32 = .ok (.aload_n 1, 1) := dk_43 (dk_at dksX25_goes_1 8 rfl rfl)
theorem dX25_goes_33 : decode cX25_goes 33 = .ok (.dup, 1) := dk_89 (dk_at dksX25_goes_1 9 rfl rfl)
theorem dX25_goes_34 : decode cX25_goes 34 = .ok (.getfield 22, 3) := dk_180 0 22 (dk_at dksX25_goes_1 10 rfl rfl)
theorem dX25_goes_37 : decode cX25_goes 37 = .ok (.iload_n 2, 1) := dk_28 (dk_at dksX25_goes_1 13 rfl rfl)
theorem dX25_goes_38 : decode cX25_goes 38 = .ok (.ifCond .eq 7, 3) := dk_153 0 7 (dk_at dksX25_goes_1 14 rfl rfl)
theorem dX25_goes_41 : decode cX25_goes 41 = .ok (.iconst 0, 1) := dk_3 (dk_at dksX25_goes_1 17 rfl rfl)
theorem dX25_goes_42 : decode cX25_goes 42 = .ok (.goto 4, 3) := dk_167 0 4 (dk_at dksX25_goes_1 18 rfl rfl)
theorem dX25_goes_45 : decode cX25_goes 45 = .ok (.iconst 1, 1) := dk_4 (dk_at dksX25_goes_1 21 rfl rfl)
theorem dX25_goes_46 : decode cX25_goes 46 = .ok (.iadd, 1) := dk_96 (dk_at dksX25_goes_1 22 rfl rfl)
theorem dX25_goes_47 : decode cX25_goes 47 = .ok (.putfield 22, 3) := dk_181 0 22 (dk_at dksX25_goes_2 0 rfl rfl)
theorem dX25_goes_50 : decode cX25_goes 50 = .ok (.return_, 1) := dk_177 (dk_at dksX25_goes_2 3 rfl rfl)
theorem q143 : (Jvm.Cond.initialized "VowelChoir$Act") ∈ lw_all := lw_g (lw_at lw_m1 45 rfl) rfl
theorem q576 : (Jvm.Cond.fieldLinkNest "VowelChoir$Act" (16 : Nat) "VowelChoir$Choir" "done" "I" "VowelChoir") ∈ lw_tbl := lw_at lw_m2 238 rfl
theorem q578 : (Jvm.Cond.fieldLinkNest "VowelChoir$Act" (22 : Nat) "VowelChoir$Choir" "refused" "I" "VowelChoir") ∈ lw_tbl := lw_at lw_m3 0 rfl
theorem q1513 : (Jvm.Cond.instanceMethod ({ cls := "VowelChoir$Act", name := "<init>", desc := "()V" } : Jvm.MethodName)) ∈ lw_all := lw_g (lw_at lw_m6 215 rfl) rfl
theorem q1514 : (Jvm.Cond.code ({ cls := "VowelChoir$Act", name := "<init>", desc := "()V" } : Jvm.MethodName) prog_2_method_1_code (1 : Nat) (Option.none : Option Jvm.ClassFile.FieldType)) ∈ lw_all := lw_g (lw_at lw_m6 216 rfl) rfl
theorem q1515 : (Jvm.Cond.methodLinkNest "VowelChoir$Act" (1 : Nat) ({ cls := "VowelChoir$Step", name := "<init>", desc := "()V" } : Jvm.MethodName) "VowelChoir") ∈ lw_tbl := lw_at lw_m6 217 rfl
theorem q1615 : (Jvm.Cond.instanceMethod ({ cls := "VowelChoir$Act", name := "goes", desc := "(LVowelChoir$Choir;)V" } : Jvm.MethodName)) ∈ lw_all := lw_g (lw_at lw_m7 77 rfl) rfl
theorem q1616 : (Jvm.Cond.code ({ cls := "VowelChoir$Act", name := "goes", desc := "(LVowelChoir$Choir;)V" } : Jvm.MethodName) prog_2_method_3_code (3 : Nat) (Option.none : Option Jvm.ClassFile.FieldType)) ∈ lw_all := lw_g (lw_at lw_m7 78 rfl) rfl
theorem q1617 : (Jvm.Cond.methodLink "VowelChoir$Act" (7 : Nat) ({ cls := "VowelChoir$Act", name := "may", desc := "(LVowelChoir$Choir;)Z" } : Jvm.MethodName)) ∈ lw_all := lw_g (lw_at lw_m7 79 rfl) rfl
theorem q1618 : (Jvm.Cond.sameMethod "VowelChoir$Act" "VowelChoir$Step" "may" "(LVowelChoir$Choir;)Z") ∈ lw_all := lw_g (lw_at lw_m7 80 rfl) rfl
theorem q1619 : (Jvm.Cond.methodLink "VowelChoir$Act" (13 : Nat) ({ cls := "VowelChoir$Act", name := "isDone", desc := "(LVowelChoir$Choir;)Z" } : Jvm.MethodName)) ∈ lw_all := lw_g (lw_at lw_m7 81 rfl) rfl
theorem q1620 : (Jvm.Cond.declares ({ cls := "VowelChoir$Act", name := "isDone", desc := "(LVowelChoir$Choir;)Z" } : Jvm.MethodName)) ∈ lw_tbl := lw_at lw_m7 82 rfl
theorem q1621 : (Jvm.Cond.sameMethod "VowelChoir$Act" "VowelChoir$Act" "isDone" "(LVowelChoir$Choir;)Z") ∈ lw_all := lw_g (lw_at lw_m7 83 rfl) rfl
/-! VowelChoir$Sings -/
set_option maxRecDepth 100000
def RX26 : String := "VowelChoir$Sings"
def TX26 : u_T := fun k => match k with
  | _ => ("VowelChoir$Sings", "note", "I", true)
def tyX26 : Nat → FieldType := fun k => match k with
  | _ => .int
abbrev wsX260 : List Cond := u_ws RX26 TX26 1
theorem nmX26 : ∀ a, a < 1 → ∀ b, b < 1 → a ≠ b → (TX26 a).2.1 ≠ (TX26 b).2.1 := by decide +kernel
theorem tyX26_ok : ∀ k, k < 1 → parseFieldDescriptor (TX26 k).2.2.1 = some (tyX26 k) := by decide +kernel
abbrev cX26_init : ByteArray := prog_23_method_1_code
def yX26_init : MethodName := ⟨RX26, "<init>", "(I)V"⟩
def dkwX26_init_0 : List UInt8 := [42, 183, 0, 1, 42, 27, 181, 0, 7, 177]
abbrev dktX26_init_0 : List UInt8 := dkwX26_init_0 ++ []
theorem dksX26_init_0 : cX26_init.data.toList.drop 0 = dktX26_init_0 := by decide +kernel
theorem dX26_init_0 : decode cX26_init 0 = .ok (.aload_n 0, 1) := dk_42 (dk_at dksX26_init_0 0 rfl rfl)
theorem dX26_init_1 : decode cX26_init 1 = .ok (.invokespecial 1, 3) := dk_183 0 1 (dk_at dksX26_init_0 1 rfl rfl)
theorem dX26_init_4 : decode cX26_init 4 = .ok (.aload_n 0, 1) := dk_42 (dk_at dksX26_init_0 4 rfl rfl)
theorem dX26_init_5 : decode cX26_init 5 = .ok (.iload_n 1, 1) := dk_27 (dk_at dksX26_init_0 5 rfl rfl)
theorem dX26_init_6 : decode cX26_init 6 = .ok (.putfield 7, 3) := dk_181 0 7 (dk_at dksX26_init_0 6 rfl rfl)
theorem dX26_init_9 : decode cX26_init 9 = .ok (.return_, 1) := dk_177 (dk_at dksX26_init_0 9 rfl rfl)
abbrev cX26_isDone : ByteArray := prog_23_method_2_code
def yX26_isDone : MethodName := ⟨RX26, "isDone", "(LVowelChoir$Choir;)Z"⟩
def dkwX26_isDone_0 : List UInt8 := [43, 42, 180, 0, 7, 182, 0, 13, 172]
abbrev dktX26_isDone_0 : List UInt8 := dkwX26_isDone_0 ++ []
theorem dksX26_isDone_0 : cX26_isDone.data.toList.drop 0 = dktX26_isDone_0 := by decide +kernel
theorem dX26_isDone_0 : decode cX26_isDone 0 = .ok (.aload_n 1, 1) := dk_43 (dk_at dksX26_isDone_0 0 rfl rfl)
theorem dX26_isDone_1 : decode cX26_isDone 1 = .ok (.aload_n 0, 1) := dk_42 (dk_at dksX26_isDone_0 1 rfl rfl)
theorem dX26_isDone_2 : decode cX26_isDone 2 = .ok (.getfield 7, 3) := dk_180 0 7 (dk_at dksX26_isDone_0 2 rfl rfl)
theorem dX26_isDone_5 : decode cX26_isDone 5 = .ok (.invokevirtual 13, 3) := dk_182 0 13 (dk_at dksX26_isDone_0 5 rfl rfl)
theorem dX26_isDone_8 : decode cX26_isDone 8 = .ok (.ireturn, 1) := dk_172 (dk_at dksX26_isDone_0 8 rfl rfl)
theorem q144 : (Jvm.Cond.initialized "VowelChoir$Sings") ∈ lw_all := lw_g (lw_at lw_m1 46 rfl) rfl
theorem q1224 : (Jvm.Cond.selects "VowelChoir$Sings" ({ cls := "java/lang/Object", name := "getClass", desc := "()Ljava/lang/Class;" } : Jvm.MethodName) ({ cls := "java/lang/Object", name := "getClass", desc := "()Ljava/lang/Class;" } : Jvm.MethodName)) ∈ lw_all := lw_g (lw_at lw_m5 166 rfl) rfl
theorem q1500 : (Jvm.Cond.instantiable "VowelChoir$Sings" (1 : Nat)) ∈ lw_all := lw_g (lw_at lw_m6 202 rfl) rfl
theorem q1510 : (Jvm.Cond.instanceMethod ({ cls := "VowelChoir$Sings", name := "<init>", desc := "(I)V" } : Jvm.MethodName)) ∈ lw_all := lw_g (lw_at lw_m6 212 rfl) rfl
theorem q1511 : (Jvm.Cond.code ({ cls := "VowelChoir$Sings", name := "<init>", desc := "(I)V" } : Jvm.MethodName) prog_23_method_1_code (2 : Nat) (Option.none : Option Jvm.ClassFile.FieldType)) ∈ lw_all := lw_g (lw_at lw_m6 213 rfl) rfl
theorem q1512 : (Jvm.Cond.methodLinkNest "VowelChoir$Sings" (1 : Nat) ({ cls := "VowelChoir$Act", name := "<init>", desc := "()V" } : Jvm.MethodName) "VowelChoir") ∈ lw_tbl := lw_at lw_m6 214 rfl
theorem q1519 : (Jvm.Cond.fieldLink "VowelChoir$Sings" (7 : Nat) "VowelChoir$Sings" "note" "I") ∈ lw_all := lw_g (lw_at lw_m6 221 rfl) rfl
theorem q1520 : (Jvm.Cond.laysFinal "VowelChoir$Sings" "VowelChoir$Sings" "note" "I") ∈ lw_all := lw_g (lw_at lw_m6 222 rfl) rfl
theorem q1521 : (Jvm.Cond.soleField "VowelChoir$Sings" "note") ∈ lw_all := lw_g (lw_at lw_m6 223 rfl) rfl
theorem q1522 : (Jvm.Cond.superclass "VowelChoir$Sings" "VowelChoir$Act") ∈ lw_all := lw_g (lw_at lw_m6 224 rfl) rfl
theorem q1645 : (Jvm.Cond.selects "VowelChoir$Sings" ({ cls := "VowelChoir$Act", name := "isDone", desc := "(LVowelChoir$Choir;)Z" } : Jvm.MethodName) ({ cls := "VowelChoir$Sings", name := "isDone", desc := "(LVowelChoir$Choir;)Z" } : Jvm.MethodName)) ∈ lw_all := lw_g (lw_at lw_m7 107 rfl) rfl
theorem q1646 : (Jvm.Cond.instanceMethod ({ cls := "VowelChoir$Sings", name := "isDone", desc := "(LVowelChoir$Choir;)Z" } : Jvm.MethodName)) ∈ lw_all := lw_g (lw_at lw_m7 108 rfl) rfl
theorem q1647 : (Jvm.Cond.code ({ cls := "VowelChoir$Sings", name := "isDone", desc := "(LVowelChoir$Choir;)Z" } : Jvm.MethodName) prog_23_method_2_code (2 : Nat) (Option.some Jvm.ClassFile.FieldType.boolean)) ∈ lw_all := lw_g (lw_at lw_m7 109 rfl) rfl
theorem q1648 : (Jvm.Cond.methodLink "VowelChoir$Sings" (13 : Nat) ({ cls := "VowelChoir$Choir", name := "sings", desc := "(I)Z" } : Jvm.MethodName)) ∈ lw_all := lw_g (lw_at lw_m7 110 rfl) rfl
theorem q1667 : (Jvm.Cond.selects "VowelChoir$Sings" ({ cls := "VowelChoir$Step", name := "goes", desc := "(LVowelChoir$Choir;)V" } : Jvm.MethodName) ({ cls := "VowelChoir$Act", name := "goes", desc := "(LVowelChoir$Choir;)V" } : Jvm.MethodName)) ∈ lw_all := lw_g (lw_at lw_m7 129 rfl) rfl
theorem q2632 : (Jvm.Cond.castable "VowelChoir$Sings" "VowelChoir$Step") ∈ lw_tbl := lw_at lw_m11 134 rfl
theorem q2660 : (Jvm.Cond.castable "VowelChoir$Sings" "java/lang/Object") ∈ lw_tbl := lw_at lw_m11 162 rfl
theorem in_X26 : ∀ w ∈ wsX260, w ∈ lw_all := lw_in wsX260 [1520] (by decide +kernel) (by decide +kernel)
/-! VowelChoir$Hymn -/
set_option maxRecDepth 100000
def RX27 : String := "VowelChoir$Hymn"
abbrev cX27_init : ByteArray := prog_9_method_1_code
def yX27_init : MethodName := ⟨RX27, "<init>", "()V"⟩
theorem dX27_init_0 : decode cX27_init 0 = .ok (.aload_n 0, 1) := by decide +kernel
theorem dX27_init_1 : decode cX27_init 1 = .ok (.invokespecial 1, 3) := by decide +kernel
theorem dX27_init_4 : decode cX27_init 4 = .ok (.return_, 1) := by decide +kernel
abbrev cX27_isDone : ByteArray := prog_9_method_2_code
def yX27_isDone : MethodName := ⟨RX27, "isDone", "(LVowelChoir$Choir;)Z"⟩
def dkwX27_isDone_0 : List UInt8 := [43, 182, 0, 7, 87, 4, 172]
abbrev dktX27_isDone_0 : List UInt8 := dkwX27_isDone_0 ++ []
theorem dksX27_isDone_0 : cX27_isDone.data.toList.drop 0 = dktX27_isDone_0 := by decide +kernel
theorem dX27_isDone_0 : decode cX27_isDone 0 = .ok (.aload_n 1, 1) := dk_43 (dk_at dksX27_isDone_0 0 rfl rfl)
theorem dX27_isDone_1 : decode cX27_isDone 1 = .ok (.invokevirtual 7, 3) := dk_182 0 7 (dk_at dksX27_isDone_0 1 rfl rfl)
theorem dX27_isDone_4 : decode cX27_isDone 4 = .ok (.pop, 1) := dk_87 (dk_at dksX27_isDone_0 4 rfl rfl)
theorem dX27_isDone_5 : decode cX27_isDone 5 = .ok (.iconst 1, 1) := dk_4 (dk_at dksX27_isDone_0 5 rfl rfl)
theorem dX27_isDone_6 : decode cX27_isDone 6 = .ok (.ireturn, 1) := dk_172 (dk_at dksX27_isDone_0 6 rfl rfl)
theorem q145 : (Jvm.Cond.initialized "VowelChoir$Hymn") ∈ lw_all := lw_g (lw_at lw_m1 47 rfl) rfl
theorem q1211 : (Jvm.Cond.selects "VowelChoir$Hymn" ({ cls := "java/lang/Object", name := "getClass", desc := "()Ljava/lang/Class;" } : Jvm.MethodName) ({ cls := "java/lang/Object", name := "getClass", desc := "()Ljava/lang/Class;" } : Jvm.MethodName)) ∈ lw_all := lw_g (lw_at lw_m5 153 rfl) rfl
theorem q1524 : (Jvm.Cond.instantiable "VowelChoir$Hymn" (0 : Nat)) ∈ lw_all := lw_g (lw_at lw_m6 226 rfl) rfl
theorem q1526 : (Jvm.Cond.instanceMethod ({ cls := "VowelChoir$Hymn", name := "<init>", desc := "()V" } : Jvm.MethodName)) ∈ lw_all := lw_g (lw_at lw_m6 228 rfl) rfl
theorem q1527 : (Jvm.Cond.code ({ cls := "VowelChoir$Hymn", name := "<init>", desc := "()V" } : Jvm.MethodName) prog_9_method_1_code (1 : Nat) (Option.none : Option Jvm.ClassFile.FieldType)) ∈ lw_all := lw_g (lw_at lw_m6 229 rfl) rfl
theorem q1528 : (Jvm.Cond.methodLinkNest "VowelChoir$Hymn" (1 : Nat) ({ cls := "VowelChoir$Act", name := "<init>", desc := "()V" } : Jvm.MethodName) "VowelChoir") ∈ lw_tbl := lw_at lw_m6 230 rfl
theorem q1529 : (Jvm.Cond.superclass "VowelChoir$Hymn" "VowelChoir$Act") ∈ lw_all := lw_g (lw_at lw_m6 231 rfl) rfl
theorem q1622 : (Jvm.Cond.selects "VowelChoir$Hymn" ({ cls := "VowelChoir$Act", name := "isDone", desc := "(LVowelChoir$Choir;)Z" } : Jvm.MethodName) ({ cls := "VowelChoir$Hymn", name := "isDone", desc := "(LVowelChoir$Choir;)Z" } : Jvm.MethodName)) ∈ lw_all := lw_g (lw_at lw_m7 84 rfl) rfl
theorem q1623 : (Jvm.Cond.instanceMethod ({ cls := "VowelChoir$Hymn", name := "isDone", desc := "(LVowelChoir$Choir;)Z" } : Jvm.MethodName)) ∈ lw_all := lw_g (lw_at lw_m7 85 rfl) rfl
theorem q1624 : (Jvm.Cond.code ({ cls := "VowelChoir$Hymn", name := "isDone", desc := "(LVowelChoir$Choir;)Z" } : Jvm.MethodName) prog_9_method_2_code (2 : Nat) (Option.some Jvm.ClassFile.FieldType.boolean)) ∈ lw_all := lw_g (lw_at lw_m7 86 rfl) rfl
theorem q1625 : (Jvm.Cond.methodLink "VowelChoir$Hymn" (7 : Nat) ({ cls := "VowelChoir$Choir", name := "hymn", desc := "()I" } : Jvm.MethodName)) ∈ lw_all := lw_g (lw_at lw_m7 87 rfl) rfl
theorem q1664 : (Jvm.Cond.selects "VowelChoir$Hymn" ({ cls := "VowelChoir$Step", name := "goes", desc := "(LVowelChoir$Choir;)V" } : Jvm.MethodName) ({ cls := "VowelChoir$Act", name := "goes", desc := "(LVowelChoir$Choir;)V" } : Jvm.MethodName)) ∈ lw_all := lw_g (lw_at lw_m7 126 rfl) rfl
theorem q2629 : (Jvm.Cond.castable "VowelChoir$Hymn" "VowelChoir$Step") ∈ lw_tbl := lw_at lw_m11 131 rfl
theorem q2661 : (Jvm.Cond.castable "VowelChoir$Hymn" "java/lang/Object") ∈ lw_tbl := lw_at lw_m11 163 rfl
/-! VowelChoir$Rests -/
set_option maxRecDepth 100000
def RX28 : String := "VowelChoir$Rests"
abbrev cX28_init : ByteArray := prog_21_method_1_code
def yX28_init : MethodName := ⟨RX28, "<init>", "()V"⟩
theorem dX28_init_0 : decode cX28_init 0 = .ok (.aload_n 0, 1) := by decide +kernel
theorem dX28_init_1 : decode cX28_init 1 = .ok (.invokespecial 1, 3) := by decide +kernel
theorem dX28_init_4 : decode cX28_init 4 = .ok (.return_, 1) := by decide +kernel
abbrev cX28_isDone : ByteArray := prog_21_method_2_code
def yX28_isDone : MethodName := ⟨RX28, "isDone", "(LVowelChoir$Choir;)Z"⟩
theorem dX28_isDone_0 : decode cX28_isDone 0 = .ok (.aload_n 1, 1) := by decide +kernel
theorem dX28_isDone_1 : decode cX28_isDone 1 = .ok (.invokevirtual 7, 3) := by decide +kernel
theorem dX28_isDone_4 : decode cX28_isDone 4 = .ok (.ireturn, 1) := by decide +kernel
theorem q146 : (Jvm.Cond.initialized "VowelChoir$Rests") ∈ lw_all := lw_g (lw_at lw_m1 48 rfl) rfl
theorem q1222 : (Jvm.Cond.selects "VowelChoir$Rests" ({ cls := "java/lang/Object", name := "getClass", desc := "()Ljava/lang/Class;" } : Jvm.MethodName) ({ cls := "java/lang/Object", name := "getClass", desc := "()Ljava/lang/Class;" } : Jvm.MethodName)) ∈ lw_all := lw_g (lw_at lw_m5 164 rfl) rfl
theorem q1531 : (Jvm.Cond.instantiable "VowelChoir$Rests" (0 : Nat)) ∈ lw_all := lw_g (lw_at lw_m6 233 rfl) rfl
theorem q1533 : (Jvm.Cond.instanceMethod ({ cls := "VowelChoir$Rests", name := "<init>", desc := "()V" } : Jvm.MethodName)) ∈ lw_all := lw_g (lw_at lw_m6 235 rfl) rfl
theorem q1534 : (Jvm.Cond.code ({ cls := "VowelChoir$Rests", name := "<init>", desc := "()V" } : Jvm.MethodName) prog_21_method_1_code (1 : Nat) (Option.none : Option Jvm.ClassFile.FieldType)) ∈ lw_all := lw_g (lw_at lw_m6 236 rfl) rfl
theorem q1535 : (Jvm.Cond.methodLinkNest "VowelChoir$Rests" (1 : Nat) ({ cls := "VowelChoir$Act", name := "<init>", desc := "()V" } : Jvm.MethodName) "VowelChoir") ∈ lw_tbl := lw_at lw_m6 237 rfl
theorem q1536 : (Jvm.Cond.superclass "VowelChoir$Rests" "VowelChoir$Act") ∈ lw_all := lw_g (lw_at lw_m6 238 rfl) rfl
theorem q1638 : (Jvm.Cond.selects "VowelChoir$Rests" ({ cls := "VowelChoir$Act", name := "isDone", desc := "(LVowelChoir$Choir;)Z" } : Jvm.MethodName) ({ cls := "VowelChoir$Rests", name := "isDone", desc := "(LVowelChoir$Choir;)Z" } : Jvm.MethodName)) ∈ lw_all := lw_g (lw_at lw_m7 100 rfl) rfl
theorem q1639 : (Jvm.Cond.instanceMethod ({ cls := "VowelChoir$Rests", name := "isDone", desc := "(LVowelChoir$Choir;)Z" } : Jvm.MethodName)) ∈ lw_all := lw_g (lw_at lw_m7 101 rfl) rfl
theorem q1640 : (Jvm.Cond.code ({ cls := "VowelChoir$Rests", name := "isDone", desc := "(LVowelChoir$Choir;)Z" } : Jvm.MethodName) prog_21_method_2_code (2 : Nat) (Option.some Jvm.ClassFile.FieldType.boolean)) ∈ lw_all := lw_g (lw_at lw_m7 102 rfl) rfl
theorem q1641 : (Jvm.Cond.methodLink "VowelChoir$Rests" (7 : Nat) ({ cls := "VowelChoir$Choir", name := "rests", desc := "()Z" } : Jvm.MethodName)) ∈ lw_all := lw_g (lw_at lw_m7 103 rfl) rfl
theorem q1666 : (Jvm.Cond.selects "VowelChoir$Rests" ({ cls := "VowelChoir$Step", name := "goes", desc := "(LVowelChoir$Choir;)V" } : Jvm.MethodName) ({ cls := "VowelChoir$Act", name := "goes", desc := "(LVowelChoir$Choir;)V" } : Jvm.MethodName)) ∈ lw_all := lw_g (lw_at lw_m7 128 rfl) rfl
theorem q2631 : (Jvm.Cond.castable "VowelChoir$Rests" "VowelChoir$Step") ∈ lw_tbl := lw_at lw_m11 133 rfl
theorem q2662 : (Jvm.Cond.castable "VowelChoir$Rests" "java/lang/Object") ∈ lw_tbl := lw_at lw_m11 164 rfl
/-! VowelChoir$Turns -/
set_option maxRecDepth 100000
def RX29 : String := "VowelChoir$Turns"
def TX29 : u_T := fun k => match k with
  | 0 => ("VowelChoir$Turns", "singer", "I", true)
  | _ => ("VowelChoir$Turns", "hoarsens", "Z", true)
def tyX29 : Nat → FieldType := fun k => match k with
  | 0 => .int
  | _ => .boolean
abbrev wsX290 : List Cond := u_ws RX29 TX29 2
theorem nmX29 : ∀ a, a < 2 → ∀ b, b < 2 → a ≠ b → (TX29 a).2.1 ≠ (TX29 b).2.1 := by decide +kernel
theorem tyX29_ok : ∀ k, k < 2 → parseFieldDescriptor (TX29 k).2.2.1 = some (tyX29 k) := by decide +kernel
abbrev cX29_init : ByteArray := prog_28_method_1_code
def yX29_init : MethodName := ⟨RX29, "<init>", "(IZ)V"⟩
def dkwX29_init_0 : List UInt8 := [42, 183, 0, 1, 42, 27, 181, 0, 7, 42, 28, 181, 0, 13, 177]
abbrev dktX29_init_0 : List UInt8 := dkwX29_init_0 ++ []
theorem dksX29_init_0 : cX29_init.data.toList.drop 0 = dktX29_init_0 := by decide +kernel
theorem dX29_init_0 : decode cX29_init 0 = .ok (.aload_n 0, 1) := dk_42 (dk_at dksX29_init_0 0 rfl rfl)
theorem dX29_init_1 : decode cX29_init 1 = .ok (.invokespecial 1, 3) := dk_183 0 1 (dk_at dksX29_init_0 1 rfl rfl)
theorem dX29_init_4 : decode cX29_init 4 = .ok (.aload_n 0, 1) := dk_42 (dk_at dksX29_init_0 4 rfl rfl)
theorem dX29_init_5 : decode cX29_init 5 = .ok (.iload_n 1, 1) := dk_27 (dk_at dksX29_init_0 5 rfl rfl)
theorem dX29_init_6 : decode cX29_init 6 = .ok (.putfield 7, 3) := dk_181 0 7 (dk_at dksX29_init_0 6 rfl rfl)
theorem dX29_init_9 : decode cX29_init 9 = .ok (.aload_n 0, 1) := dk_42 (dk_at dksX29_init_0 9 rfl rfl)
theorem dX29_init_10 : decode cX29_init 10 = .ok (.iload_n 2, 1) := dk_28 (dk_at dksX29_init_0 10 rfl rfl)
theorem dX29_init_11 : decode cX29_init 11 = .ok (.putfield 13, 3) := dk_181 0 13 (dk_at dksX29_init_0 11 rfl rfl)
theorem dX29_init_14 : decode cX29_init 14 = .ok (.return_, 1) := dk_177 (dk_at dksX29_init_0 14 rfl rfl)
abbrev cX29_isDone : ByteArray := prog_28_method_2_code
def yX29_isDone : MethodName := ⟨RX29, "isDone", "(LVowelChoir$Choir;)Z"⟩
def dkwX29_isDone_0 : List UInt8 := [43, 42, 180, 0, 7, 42, 180, 0, 13, 182, 0, 17, 172]
abbrev dktX29_isDone_0 : List UInt8 := dkwX29_isDone_0 ++ []
theorem dksX29_isDone_0 : cX29_isDone.data.toList.drop 0 = dktX29_isDone_0 := by decide +kernel
theorem dX29_isDone_0 : decode cX29_isDone 0 = .ok (.aload_n 1, 1) := dk_43 (dk_at dksX29_isDone_0 0 rfl rfl)
theorem dX29_isDone_1 : decode cX29_isDone 1 = .ok (.aload_n 0, 1) := dk_42 (dk_at dksX29_isDone_0 1 rfl rfl)
theorem dX29_isDone_2 : decode cX29_isDone 2 = .ok (.getfield 7, 3) := dk_180 0 7 (dk_at dksX29_isDone_0 2 rfl rfl)
theorem dX29_isDone_5 : decode cX29_isDone 5 = .ok (.aload_n 0, 1) := dk_42 (dk_at dksX29_isDone_0 5 rfl rfl)
theorem dX29_isDone_6 : decode cX29_isDone 6 = .ok (.getfield 13, 3) := dk_180 0 13 (dk_at dksX29_isDone_0 6 rfl rfl)
theorem dX29_isDone_9 : decode cX29_isDone 9 = .ok (.invokevirtual 17, 3) := dk_182 0 17 (dk_at dksX29_isDone_0 9 rfl rfl)
theorem dX29_isDone_12 : decode cX29_isDone 12 = .ok (.ireturn, 1) := dk_172 (dk_at dksX29_isDone_0 12 rfl rfl)
theorem q147 : (Jvm.Cond.initialized "VowelChoir$Turns") ∈ lw_all := lw_g (lw_at lw_m1 49 rfl) rfl
theorem q1227 : (Jvm.Cond.selects "VowelChoir$Turns" ({ cls := "java/lang/Object", name := "getClass", desc := "()Ljava/lang/Class;" } : Jvm.MethodName) ({ cls := "java/lang/Object", name := "getClass", desc := "()Ljava/lang/Class;" } : Jvm.MethodName)) ∈ lw_all := lw_g (lw_at lw_m5 169 rfl) rfl
theorem q1538 : (Jvm.Cond.instantiable "VowelChoir$Turns" (2 : Nat)) ∈ lw_all := lw_g (lw_at lw_m7 0 rfl) rfl
theorem q1540 : (Jvm.Cond.instanceMethod ({ cls := "VowelChoir$Turns", name := "<init>", desc := "(IZ)V" } : Jvm.MethodName)) ∈ lw_all := lw_g (lw_at lw_m7 2 rfl) rfl
theorem q1541 : (Jvm.Cond.code ({ cls := "VowelChoir$Turns", name := "<init>", desc := "(IZ)V" } : Jvm.MethodName) prog_28_method_1_code (3 : Nat) (Option.none : Option Jvm.ClassFile.FieldType)) ∈ lw_all := lw_g (lw_at lw_m7 3 rfl) rfl
theorem q1542 : (Jvm.Cond.methodLinkNest "VowelChoir$Turns" (1 : Nat) ({ cls := "VowelChoir$Act", name := "<init>", desc := "()V" } : Jvm.MethodName) "VowelChoir") ∈ lw_tbl := lw_at lw_m7 4 rfl
theorem q1543 : (Jvm.Cond.fieldLink "VowelChoir$Turns" (7 : Nat) "VowelChoir$Turns" "singer" "I") ∈ lw_all := lw_g (lw_at lw_m7 5 rfl) rfl
theorem q1544 : (Jvm.Cond.fieldLink "VowelChoir$Turns" (13 : Nat) "VowelChoir$Turns" "hoarsens" "Z") ∈ lw_all := lw_g (lw_at lw_m7 6 rfl) rfl
theorem q1545 : (Jvm.Cond.laysFinal "VowelChoir$Turns" "VowelChoir$Turns" "singer" "I") ∈ lw_all := lw_g (lw_at lw_m7 7 rfl) rfl
theorem q1546 : (Jvm.Cond.soleField "VowelChoir$Turns" "singer") ∈ lw_all := lw_g (lw_at lw_m7 8 rfl) rfl
theorem q1547 : (Jvm.Cond.laysFinal "VowelChoir$Turns" "VowelChoir$Turns" "hoarsens" "Z") ∈ lw_all := lw_g (lw_at lw_m7 9 rfl) rfl
theorem q1548 : (Jvm.Cond.soleField "VowelChoir$Turns" "hoarsens") ∈ lw_all := lw_g (lw_at lw_m7 10 rfl) rfl
theorem q1549 : (Jvm.Cond.superclass "VowelChoir$Turns" "VowelChoir$Act") ∈ lw_all := lw_g (lw_at lw_m7 11 rfl) rfl
theorem q1649 : (Jvm.Cond.selects "VowelChoir$Turns" ({ cls := "VowelChoir$Act", name := "isDone", desc := "(LVowelChoir$Choir;)Z" } : Jvm.MethodName) ({ cls := "VowelChoir$Turns", name := "isDone", desc := "(LVowelChoir$Choir;)Z" } : Jvm.MethodName)) ∈ lw_all := lw_g (lw_at lw_m7 111 rfl) rfl
theorem q1650 : (Jvm.Cond.instanceMethod ({ cls := "VowelChoir$Turns", name := "isDone", desc := "(LVowelChoir$Choir;)Z" } : Jvm.MethodName)) ∈ lw_all := lw_g (lw_at lw_m7 112 rfl) rfl
theorem q1651 : (Jvm.Cond.code ({ cls := "VowelChoir$Turns", name := "isDone", desc := "(LVowelChoir$Choir;)Z" } : Jvm.MethodName) prog_28_method_2_code (2 : Nat) (Option.some Jvm.ClassFile.FieldType.boolean)) ∈ lw_all := lw_g (lw_at lw_m7 113 rfl) rfl
theorem q1652 : (Jvm.Cond.methodLink "VowelChoir$Turns" (17 : Nat) ({ cls := "VowelChoir$Choir", name := "turns", desc := "(IZ)Z" } : Jvm.MethodName)) ∈ lw_all := lw_g (lw_at lw_m7 114 rfl) rfl
theorem q1668 : (Jvm.Cond.selects "VowelChoir$Turns" ({ cls := "VowelChoir$Step", name := "goes", desc := "(LVowelChoir$Choir;)V" } : Jvm.MethodName) ({ cls := "VowelChoir$Act", name := "goes", desc := "(LVowelChoir$Choir;)V" } : Jvm.MethodName)) ∈ lw_all := lw_g (lw_at lw_m7 130 rfl) rfl
theorem q2633 : (Jvm.Cond.castable "VowelChoir$Turns" "VowelChoir$Step") ∈ lw_tbl := lw_at lw_m11 135 rfl
theorem q2663 : (Jvm.Cond.castable "VowelChoir$Turns" "java/lang/Object") ∈ lw_tbl := lw_at lw_m11 165 rfl
theorem in_X29 : ∀ w ∈ wsX290, w ∈ lw_all := lw_in wsX290 [1545, 1547] (by decide +kernel) (by decide +kernel)
/-! VowelChoir$Term -/
set_option maxRecDepth 100000
def RX3 : String := "VowelChoir$Term"
abbrev cX3_init : ByteArray := prog_25_method_1_code
def yX3_init : MethodName := ⟨RX3, "<init>", "()V"⟩
theorem dX3_init_0 : decode cX3_init 0 = .ok (.aload_n 0, 1) := by decide +kernel
theorem dX3_init_1 : decode cX3_init 1 = .ok (.invokespecial 1, 3) := by decide +kernel
theorem dX3_init_4 : decode cX3_init 4 = .ok (.return_, 1) := by decide +kernel
theorem q120 : (Jvm.Cond.initialized "VowelChoir$Term") ∈ lw_all := lw_g (lw_at lw_m1 22 rfl) rfl
theorem q544 : (Jvm.Cond.instanceMethod ({ cls := "VowelChoir$Term", name := "<init>", desc := "()V" } : Jvm.MethodName)) ∈ lw_all := lw_g (lw_at lw_m2 206 rfl) rfl
theorem q545 : (Jvm.Cond.code ({ cls := "VowelChoir$Term", name := "<init>", desc := "()V" } : Jvm.MethodName) prog_25_method_1_code (1 : Nat) (Option.none : Option Jvm.ClassFile.FieldType)) ∈ lw_all := lw_g (lw_at lw_m2 207 rfl) rfl
theorem q546 : (Jvm.Cond.methodLink "VowelChoir$Term" (1 : Nat) ({ cls := "java/lang/Object", name := "<init>", desc := "()V" } : Jvm.MethodName)) ∈ lw_all := lw_g (lw_at lw_m2 208 rfl) rfl
theorem q770 : (Jvm.Cond.declares ({ cls := "VowelChoir$Term", name := "of", desc := "([I)I" } : Jvm.MethodName)) ∈ lw_tbl := lw_at lw_m3 192 rfl
theorem q771 : (Jvm.Cond.sameMethod "VowelChoir$Term" "VowelChoir$Term" "of" "([I)I") ∈ lw_all := lw_g (lw_at lw_m3 193 rfl) rfl
/-! VowelChoir$Words -/
set_option maxRecDepth 100000
def RX30 : String := "VowelChoir$Words"
def TX30 : u_T := fun k => match k with
  | 0 => ("VowelChoir$Words", "note", "I", true)
  | _ => ("VowelChoir$Words", "vowel", "I", true)
def tyX30 : Nat → FieldType := fun k => match k with
  | 0 => .int
  | _ => .int
abbrev wsX300 : List Cond := u_ws RX30 TX30 2
theorem nmX30 : ∀ a, a < 2 → ∀ b, b < 2 → a ≠ b → (TX30 a).2.1 ≠ (TX30 b).2.1 := by decide +kernel
theorem tyX30_ok : ∀ k, k < 2 → parseFieldDescriptor (TX30 k).2.2.1 = some (tyX30 k) := by decide +kernel
abbrev cX30_init : ByteArray := prog_30_method_1_code
def yX30_init : MethodName := ⟨RX30, "<init>", "(II)V"⟩
def dkwX30_init_0 : List UInt8 := [42, 183, 0, 1, 42, 27, 181, 0, 7, 42, 28, 181, 0, 13, 177]
abbrev dktX30_init_0 : List UInt8 := dkwX30_init_0 ++ []
theorem dksX30_init_0 : cX30_init.data.toList.drop 0 = dktX30_init_0 := by decide +kernel
theorem dX30_init_0 : decode cX30_init 0 = .ok (.aload_n 0, 1) := dk_42 (dk_at dksX30_init_0 0 rfl rfl)
theorem dX30_init_1 : decode cX30_init 1 = .ok (.invokespecial 1, 3) := dk_183 0 1 (dk_at dksX30_init_0 1 rfl rfl)
theorem dX30_init_4 : decode cX30_init 4 = .ok (.aload_n 0, 1) := dk_42 (dk_at dksX30_init_0 4 rfl rfl)
theorem dX30_init_5 : decode cX30_init 5 = .ok (.iload_n 1, 1) := dk_27 (dk_at dksX30_init_0 5 rfl rfl)
theorem dX30_init_6 : decode cX30_init 6 = .ok (.putfield 7, 3) := dk_181 0 7 (dk_at dksX30_init_0 6 rfl rfl)
theorem dX30_init_9 : decode cX30_init 9 = .ok (.aload_n 0, 1) := dk_42 (dk_at dksX30_init_0 9 rfl rfl)
theorem dX30_init_10 : decode cX30_init 10 = .ok (.iload_n 2, 1) := dk_28 (dk_at dksX30_init_0 10 rfl rfl)
theorem dX30_init_11 : decode cX30_init 11 = .ok (.putfield 13, 3) := dk_181 0 13 (dk_at dksX30_init_0 11 rfl rfl)
theorem dX30_init_14 : decode cX30_init 14 = .ok (.return_, 1) := dk_177 (dk_at dksX30_init_0 14 rfl rfl)
abbrev cX30_isDone : ByteArray := prog_30_method_2_code
def yX30_isDone : MethodName := ⟨RX30, "isDone", "(LVowelChoir$Choir;)Z"⟩
def dkwX30_isDone_0 : List UInt8 := [43, 42, 180, 0, 7, 42, 180, 0, 13, 182, 0, 16, 172]
abbrev dktX30_isDone_0 : List UInt8 := dkwX30_isDone_0 ++ []
theorem dksX30_isDone_0 : cX30_isDone.data.toList.drop 0 = dktX30_isDone_0 := by decide +kernel
theorem dX30_isDone_0 : decode cX30_isDone 0 = .ok (.aload_n 1, 1) := dk_43 (dk_at dksX30_isDone_0 0 rfl rfl)
theorem dX30_isDone_1 : decode cX30_isDone 1 = .ok (.aload_n 0, 1) := dk_42 (dk_at dksX30_isDone_0 1 rfl rfl)
theorem dX30_isDone_2 : decode cX30_isDone 2 = .ok (.getfield 7, 3) := dk_180 0 7 (dk_at dksX30_isDone_0 2 rfl rfl)
theorem dX30_isDone_5 : decode cX30_isDone 5 = .ok (.aload_n 0, 1) := dk_42 (dk_at dksX30_isDone_0 5 rfl rfl)
theorem dX30_isDone_6 : decode cX30_isDone 6 = .ok (.getfield 13, 3) := dk_180 0 13 (dk_at dksX30_isDone_0 6 rfl rfl)
theorem dX30_isDone_9 : decode cX30_isDone 9 = .ok (.invokevirtual 16, 3) := dk_182 0 16 (dk_at dksX30_isDone_0 9 rfl rfl)
theorem dX30_isDone_12 : decode cX30_isDone 12 = .ok (.ireturn, 1) := dk_172 (dk_at dksX30_isDone_0 12 rfl rfl)
theorem q148 : (Jvm.Cond.initialized "VowelChoir$Words") ∈ lw_all := lw_g (lw_at lw_m1 50 rfl) rfl
theorem q1228 : (Jvm.Cond.selects "VowelChoir$Words" ({ cls := "java/lang/Object", name := "getClass", desc := "()Ljava/lang/Class;" } : Jvm.MethodName) ({ cls := "java/lang/Object", name := "getClass", desc := "()Ljava/lang/Class;" } : Jvm.MethodName)) ∈ lw_all := lw_g (lw_at lw_m5 170 rfl) rfl
theorem q1551 : (Jvm.Cond.instantiable "VowelChoir$Words" (2 : Nat)) ∈ lw_all := lw_g (lw_at lw_m7 13 rfl) rfl
theorem q1553 : (Jvm.Cond.instanceMethod ({ cls := "VowelChoir$Words", name := "<init>", desc := "(II)V" } : Jvm.MethodName)) ∈ lw_all := lw_g (lw_at lw_m7 15 rfl) rfl
theorem q1554 : (Jvm.Cond.code ({ cls := "VowelChoir$Words", name := "<init>", desc := "(II)V" } : Jvm.MethodName) prog_30_method_1_code (3 : Nat) (Option.none : Option Jvm.ClassFile.FieldType)) ∈ lw_all := lw_g (lw_at lw_m7 16 rfl) rfl
theorem q1555 : (Jvm.Cond.methodLinkNest "VowelChoir$Words" (1 : Nat) ({ cls := "VowelChoir$Act", name := "<init>", desc := "()V" } : Jvm.MethodName) "VowelChoir") ∈ lw_tbl := lw_at lw_m7 17 rfl
theorem q1556 : (Jvm.Cond.fieldLink "VowelChoir$Words" (7 : Nat) "VowelChoir$Words" "note" "I") ∈ lw_all := lw_g (lw_at lw_m7 18 rfl) rfl
theorem q1557 : (Jvm.Cond.fieldLink "VowelChoir$Words" (13 : Nat) "VowelChoir$Words" "vowel" "I") ∈ lw_all := lw_g (lw_at lw_m7 19 rfl) rfl
theorem q1558 : (Jvm.Cond.laysFinal "VowelChoir$Words" "VowelChoir$Words" "note" "I") ∈ lw_all := lw_g (lw_at lw_m7 20 rfl) rfl
theorem q1559 : (Jvm.Cond.soleField "VowelChoir$Words" "note") ∈ lw_all := lw_g (lw_at lw_m7 21 rfl) rfl
theorem q1560 : (Jvm.Cond.laysFinal "VowelChoir$Words" "VowelChoir$Words" "vowel" "I") ∈ lw_all := lw_g (lw_at lw_m7 22 rfl) rfl
theorem q1561 : (Jvm.Cond.soleField "VowelChoir$Words" "vowel") ∈ lw_all := lw_g (lw_at lw_m7 23 rfl) rfl
theorem q1562 : (Jvm.Cond.superclass "VowelChoir$Words" "VowelChoir$Act") ∈ lw_all := lw_g (lw_at lw_m7 24 rfl) rfl
theorem q1656 : (Jvm.Cond.selects "VowelChoir$Words" ({ cls := "VowelChoir$Act", name := "isDone", desc := "(LVowelChoir$Choir;)Z" } : Jvm.MethodName) ({ cls := "VowelChoir$Words", name := "isDone", desc := "(LVowelChoir$Choir;)Z" } : Jvm.MethodName)) ∈ lw_all := lw_g (lw_at lw_m7 118 rfl) rfl
theorem q1657 : (Jvm.Cond.instanceMethod ({ cls := "VowelChoir$Words", name := "isDone", desc := "(LVowelChoir$Choir;)Z" } : Jvm.MethodName)) ∈ lw_all := lw_g (lw_at lw_m7 119 rfl) rfl
theorem q1658 : (Jvm.Cond.code ({ cls := "VowelChoir$Words", name := "isDone", desc := "(LVowelChoir$Choir;)Z" } : Jvm.MethodName) prog_30_method_2_code (2 : Nat) (Option.some Jvm.ClassFile.FieldType.boolean)) ∈ lw_all := lw_g (lw_at lw_m7 120 rfl) rfl
theorem q1659 : (Jvm.Cond.methodLink "VowelChoir$Words" (16 : Nat) ({ cls := "VowelChoir$Choir", name := "words", desc := "(II)Z" } : Jvm.MethodName)) ∈ lw_all := lw_g (lw_at lw_m7 121 rfl) rfl
theorem q1669 : (Jvm.Cond.selects "VowelChoir$Words" ({ cls := "VowelChoir$Step", name := "goes", desc := "(LVowelChoir$Choir;)V" } : Jvm.MethodName) ({ cls := "VowelChoir$Act", name := "goes", desc := "(LVowelChoir$Choir;)V" } : Jvm.MethodName)) ∈ lw_all := lw_g (lw_at lw_m7 131 rfl) rfl
theorem q2634 : (Jvm.Cond.castable "VowelChoir$Words" "VowelChoir$Step") ∈ lw_tbl := lw_at lw_m11 136 rfl
theorem q2664 : (Jvm.Cond.castable "VowelChoir$Words" "java/lang/Object") ∈ lw_tbl := lw_at lw_m11 166 rfl
theorem in_X30 : ∀ w ∈ wsX300, w ∈ lw_all := lw_in wsX300 [1558, 1560] (by decide +kernel) (by decide +kernel)
/-! VowelChoir$Passes -/
set_option maxRecDepth 100000
def RX31 : String := "VowelChoir$Passes"
abbrev cX31_init : ByteArray := prog_17_method_1_code
def yX31_init : MethodName := ⟨RX31, "<init>", "()V"⟩
theorem dX31_init_0 : decode cX31_init 0 = .ok (.aload_n 0, 1) := by decide +kernel
theorem dX31_init_1 : decode cX31_init 1 = .ok (.invokespecial 1, 3) := by decide +kernel
theorem dX31_init_4 : decode cX31_init 4 = .ok (.return_, 1) := by decide +kernel
abbrev cX31_isDone : ByteArray := prog_17_method_2_code
def yX31_isDone : MethodName := ⟨RX31, "isDone", "(LVowelChoir$Choir;)Z"⟩
theorem dX31_isDone_0 : decode cX31_isDone 0 = .ok (.aload_n 1, 1) := by decide +kernel
theorem dX31_isDone_1 : decode cX31_isDone 1 = .ok (.invokevirtual 7, 3) := by decide +kernel
theorem dX31_isDone_4 : decode cX31_isDone 4 = .ok (.ireturn, 1) := by decide +kernel
theorem q149 : (Jvm.Cond.initialized "VowelChoir$Passes") ∈ lw_all := lw_g (lw_at lw_m1 51 rfl) rfl
theorem q1219 : (Jvm.Cond.selects "VowelChoir$Passes" ({ cls := "java/lang/Object", name := "getClass", desc := "()Ljava/lang/Class;" } : Jvm.MethodName) ({ cls := "java/lang/Object", name := "getClass", desc := "()Ljava/lang/Class;" } : Jvm.MethodName)) ∈ lw_all := lw_g (lw_at lw_m5 161 rfl) rfl
theorem q1564 : (Jvm.Cond.instantiable "VowelChoir$Passes" (0 : Nat)) ∈ lw_all := lw_g (lw_at lw_m7 26 rfl) rfl
theorem q1566 : (Jvm.Cond.instanceMethod ({ cls := "VowelChoir$Passes", name := "<init>", desc := "()V" } : Jvm.MethodName)) ∈ lw_all := lw_g (lw_at lw_m7 28 rfl) rfl
theorem q1567 : (Jvm.Cond.code ({ cls := "VowelChoir$Passes", name := "<init>", desc := "()V" } : Jvm.MethodName) prog_17_method_1_code (1 : Nat) (Option.none : Option Jvm.ClassFile.FieldType)) ∈ lw_all := lw_g (lw_at lw_m7 29 rfl) rfl
theorem q1568 : (Jvm.Cond.methodLinkNest "VowelChoir$Passes" (1 : Nat) ({ cls := "VowelChoir$Act", name := "<init>", desc := "()V" } : Jvm.MethodName) "VowelChoir") ∈ lw_tbl := lw_at lw_m7 30 rfl
theorem q1569 : (Jvm.Cond.superclass "VowelChoir$Passes" "VowelChoir$Act") ∈ lw_all := lw_g (lw_at lw_m7 31 rfl) rfl
theorem q1626 : (Jvm.Cond.selects "VowelChoir$Passes" ({ cls := "VowelChoir$Act", name := "isDone", desc := "(LVowelChoir$Choir;)Z" } : Jvm.MethodName) ({ cls := "VowelChoir$Passes", name := "isDone", desc := "(LVowelChoir$Choir;)Z" } : Jvm.MethodName)) ∈ lw_all := lw_g (lw_at lw_m7 88 rfl) rfl
theorem q1627 : (Jvm.Cond.instanceMethod ({ cls := "VowelChoir$Passes", name := "isDone", desc := "(LVowelChoir$Choir;)Z" } : Jvm.MethodName)) ∈ lw_all := lw_g (lw_at lw_m7 89 rfl) rfl
theorem q1628 : (Jvm.Cond.code ({ cls := "VowelChoir$Passes", name := "isDone", desc := "(LVowelChoir$Choir;)Z" } : Jvm.MethodName) prog_17_method_2_code (2 : Nat) (Option.some Jvm.ClassFile.FieldType.boolean)) ∈ lw_all := lw_g (lw_at lw_m7 90 rfl) rfl
theorem q1629 : (Jvm.Cond.methodLink "VowelChoir$Passes" (7 : Nat) ({ cls := "VowelChoir$Choir", name := "day", desc := "()Z" } : Jvm.MethodName)) ∈ lw_all := lw_g (lw_at lw_m7 91 rfl) rfl
theorem q1665 : (Jvm.Cond.selects "VowelChoir$Passes" ({ cls := "VowelChoir$Step", name := "goes", desc := "(LVowelChoir$Choir;)V" } : Jvm.MethodName) ({ cls := "VowelChoir$Act", name := "goes", desc := "(LVowelChoir$Choir;)V" } : Jvm.MethodName)) ∈ lw_all := lw_g (lw_at lw_m7 127 rfl) rfl
theorem q2630 : (Jvm.Cond.castable "VowelChoir$Passes" "VowelChoir$Step") ∈ lw_tbl := lw_at lw_m11 132 rfl
theorem q2665 : (Jvm.Cond.castable "VowelChoir$Passes" "java/lang/Object") ∈ lw_tbl := lw_at lw_m11 167 rfl
/-! VowelChoir$Again -/
set_option maxRecDepth 100000
def RX32 : String := "VowelChoir$Again"
def TX32 : u_T := fun k => match k with
  | 0 => ("VowelChoir$Again", "times", "I", true)
  | _ => ("VowelChoir$Again", "steps", "Ljava/util/ArrayList;", true)
def tyX32 : Nat → FieldType := fun k => match k with
  | 0 => .int
  | _ => .object "java/util/ArrayList"
abbrev wsX320 : List Cond := u_ws RX32 TX32 2
theorem nmX32 : ∀ a, a < 2 → ∀ b, b < 2 → a ≠ b → (TX32 a).2.1 ≠ (TX32 b).2.1 := by decide +kernel
theorem tyX32_ok : ∀ k, k < 2 → parseFieldDescriptor (TX32 k).2.2.1 = some (tyX32 k) := by decide +kernel
abbrev cX32_init : ByteArray := prog_3_method_1_code
def yX32_init : MethodName := ⟨RX32, "<init>", "(I)V"⟩
def dkwX32_init_0 : List UInt8 := [42, 183, 0, 3, 42, 187, 0, 9, 89, 4, 183, 0, 11, 181, 0, 14, 42, 27, 181, 0, 20, 177]
abbrev dktX32_init_0 : List UInt8 := dkwX32_init_0 ++ []
theorem dksX32_init_0 : cX32_init.data.toList.drop 0 = dktX32_init_0 := by decide +kernel
theorem dX32_init_0 : decode cX32_init 0 = .ok (.aload_n 0, 1) := dk_42 (dk_at dksX32_init_0 0 rfl rfl)
theorem dX32_init_1 : decode cX32_init 1 = .ok (.invokespecial 3, 3) := dk_183 0 3 (dk_at dksX32_init_0 1 rfl rfl)
theorem dX32_init_4 : decode cX32_init 4 = .ok (.aload_n 0, 1) := dk_42 (dk_at dksX32_init_0 4 rfl rfl)
theorem dX32_init_5 : decode cX32_init 5 = .ok (.new 9, 3) := dk_187 0 9 (dk_at dksX32_init_0 5 rfl rfl)
theorem dX32_init_8 : decode cX32_init 8 = .ok (.dup, 1) := dk_89 (dk_at dksX32_init_0 8 rfl rfl)
theorem dX32_init_9 : decode cX32_init 9 = .ok (.iconst 1, 1) := dk_4 (dk_at dksX32_init_0 9 rfl rfl)
theorem dX32_init_10 : decode cX32_init 10 = .ok (.invokespecial 11, 3) := dk_183 0 11 (dk_at dksX32_init_0 10 rfl rfl)
theorem dX32_init_13 : decode cX32_init 13 = .ok (.putfield 14, 3) := dk_181 0 14 (dk_at dksX32_init_0 13 rfl rfl)
theorem dX32_init_16 : decode cX32_init 16 = .ok (.aload_n 0, 1) := dk_42 (dk_at dksX32_init_0 16 rfl rfl)
theorem dX32_init_17 : decode cX32_init 17 = .ok (.iload_n 1, 1) := dk_27 (dk_at dksX32_init_0 17 rfl rfl)
theorem dX32_init_18 : decode cX32_init 18 = .ok (.putfield 20, 3) := dk_181 0 20 (dk_at dksX32_init_0 18 rfl rfl)
theorem dX32_init_21 : decode cX32_init 21 = .ok (.return_, 1) := dk_177 (dk_at dksX32_init_0 21 rfl rfl)
abbrev cX32_goes : ByteArray := prog_3_method_2_code
def yX32_goes : MethodName := ⟨RX32, "goes", "(LVowelChoir$Choir;)V"⟩
def dkwX32_goes_2 : List UInt8 := [182, 0, 36, 192, 0, 4, 43, 182, 0, 40, 132, 3, 1, 167, 255, 227, 132, 2, 1, 167, 255, 201, 177]
abbrev dktX32_goes_2 : List UInt8 := dkwX32_goes_2 ++ []
def dkwX32_goes_1 : List UInt8 := [17, 0, 200, 162, 0, 43, 3, 62, 29, 42, 180, 0, 14, 182, 0, 32, 162, 0, 24, 42, 180, 0, 14, 29]
abbrev dktX32_goes_1 : List UInt8 := dkwX32_goes_1 ++ dktX32_goes_2
def dkwX32_goes_0 : List UInt8 := [43, 184, 0, 24, 154, 0, 4, 177, 3, 61, 28, 42, 180, 0, 20, 162, 0, 53, 43, 180, 0, 28]
abbrev dktX32_goes_0 : List UInt8 := dkwX32_goes_0 ++ dktX32_goes_1
theorem dksX32_goes_0 : cX32_goes.data.toList.drop 0 = dktX32_goes_0 := by decide +kernel
theorem dksX32_goes_1 : cX32_goes.data.toList.drop 22 = dktX32_goes_1 := dk_seg dksX32_goes_0 22 rfl rfl
theorem dksX32_goes_2 : cX32_goes.data.toList.drop 46 = dktX32_goes_2 := dk_seg dksX32_goes_1 24 rfl rfl
theorem dX32_goes_0 : decode cX32_goes 0 = .ok (.aload_n 1, 1) := dk_43 (dk_at dksX32_goes_0 0 rfl rfl)
theorem dX32_goes_1 : decode cX32_goes 1 = .ok (.invokestatic 24, 3) := dk_184 0 24 (dk_at dksX32_goes_0 1 rfl rfl)
theorem dX32_goes_4 : decode cX32_goes 4 = .ok (.ifCond .ne 4, 3) := dk_154 0 4 (dk_at dksX32_goes_0 4 rfl rfl)
theorem dX32_goes_7 : decode cX32_goes 7 = .ok (.return_, 1) := dk_177 (dk_at dksX32_goes_0 7 rfl rfl)
theorem dX32_goes_8 : decode cX32_goes 8 = .ok (.iconst 0, 1) := dk_3 (dk_at dksX32_goes_0 8 rfl rfl)
theorem dX32_goes_9 : decode cX32_goes 9 = .ok (.istore_n 2, 1) := dk_61 (dk_at dksX32_goes_0 9 rfl rfl)
theorem dX32_goes_10 : decode cX32_goes 10 = .ok (.iload_n 2, 1) := dk_28 (dk_at dksX32_goes_0 10 rfl rfl)
theorem dX32_goes_11 : decode cX32_goes 11 = .ok (.aload_n 0, 1) := dk_42 (dk_at dksX32_goes_0 11 rfl rfl)
theorem dX32_goes_12 : decode cX32_goes 12 = .ok (.getfield 20, 3) := dk_180 0 20 (dk_at dksX32_goes_0 12 rfl rfl)
theorem dX32_goes_15 : decode cX32_goes 15 = .ok (.if_icmp .ge 53, 3) := dk_162 0 53 (dk_at dksX32_goes_0 15 rfl rfl)
theorem dX32_goes_18 : decode cX32_goes 18 = .ok (.aload_n 1, 1) := dk_43 (dk_at dksX32_goes_0 18 rfl rfl)
theorem dX32_goes_19 : decode cX32_goes 19 = .ok (.getfield 28, 3) := dk_180 0 28 (dk_at dksX32_goes_0 19 rfl rfl)
theorem dX32_goes_22 : decode cX32_goes 22 = .ok (.sipush 200, 3) := dk_17 0 200 (dk_at dksX32_goes_1 0 rfl rfl)
theorem dX32_goes_25 : decode cX32_goes 25 = .ok (.if_icmp .ge 43, 3) := dk_162 0 43 (dk_at dksX32_goes_1 3 rfl rfl)
theorem dX32_goes_28 : decode cX32_goes 28 = .ok (.iconst 0, 1) := dk_3 (dk_at dksX32_goes_1 6 rfl rfl)
theorem dX32_goes_29 : decode cX32_goes 29 = .ok (.istore_n 3, 1) := dk_62 (dk_at dksX32_goes_1 7 rfl rfl)
theorem dX32_goes_30 : decode cX32_goes 30 = .ok (.iload_n 3, 1) := dk_29 (dk_at dksX32_goes_1 8 rfl rfl)
theorem dX32_goes_31 : decode cX32_goes 31 = .ok (.aload_n 0, 1) := dk_42 (dk_at dksX32_goes_1 9 rfl rfl)
theorem dX32_goes_32 : decode cX32_goes 32 = .ok (.getfield 14, 3) := dk_180 0 14 (dk_at dksX32_goes_1 10 rfl rfl)
theorem dX32_goes_35 : decode cX32_goes 35 = .ok (.invokevirtual 32, 3) := dk_182 0 32 (dk_at dksX32_goes_1 13 rfl rfl)
theorem dX32_goes_38 : decode cX32_goes 38 = .ok (.if_icmp .ge 24, 3) := dk_162 0 24 (dk_at dksX32_goes_1 16 rfl rfl)
theorem dX32_goes_41 : decode cX32_goes 41 = .ok (.aload_n 0, 1) := dk_42 (dk_at dksX32_goes_1 19 rfl rfl)
theorem dX32_goes_42 : decode cX32_goes 42 = .ok (.getfield 14, 3) := dk_180 0 14 (dk_at dksX32_goes_1 20 rfl rfl)
theorem dX32_goes_45 : decode cX32_goes 45 = .ok (.iload_n 3, 1) := dk_29 (dk_at dksX32_goes_1 23 rfl rfl)
theorem dX32_goes_46 : decode cX32_goes 46 = .ok (.invokevirtual 36, 3) := dk_182 0 36 (dk_at dksX32_goes_2 0 rfl rfl)
theorem dX32_goes_49 : decode cX32_goes 49 = .ok (.checkcast 4, 3) := dk_192 0 4 (dk_at dksX32_goes_2 3 rfl rfl)
theorem dX32_goes_52 : decode cX32_goes 52 = .ok (.aload_n 1, 1) := dk_43 (dk_at dksX32_goes_2 6 rfl rfl)
theorem dX32_goes_53 : decode cX32_goes 53 = .ok (.invokevirtual 40, 3) := dk_182 0 40 (dk_at dksX32_goes_2 7 rfl rfl)
theorem dX32_goes_56 : decode cX32_goes 56 = .ok (.iinc 3 1, 3) := dk_132 3 1 (dk_at dksX32_goes_2 10 rfl rfl)
theorem dX32_goes_59 : decode cX32_goes 59 = .ok (.goto (-29), 3) := dk_167 255 227 (dk_at dksX32_goes_2 13 rfl rfl)
theorem dX32_goes_62 : decode cX32_goes 62 = .ok (.iinc 2 1, 3) := dk_132 2 1 (dk_at dksX32_goes_2 16 rfl rfl)
theorem dX32_goes_65 : decode cX32_goes 65 = .ok (.goto (-55), 3) := dk_167 255 201 (dk_at dksX32_goes_2 19 rfl rfl)
theorem dX32_goes_68 : decode cX32_goes 68 = .ok (.return_, 1) := dk_177 (dk_at dksX32_goes_2 22 rfl rfl)
theorem q150 : (Jvm.Cond.initialized "VowelChoir$Again") ∈ lw_all := lw_g (lw_at lw_m1 52 rfl) rfl
theorem q573 : (Jvm.Cond.fieldLinkNest "VowelChoir$Again" (28 : Nat) "VowelChoir$Choir" "steps" "I" "VowelChoir") ∈ lw_tbl := lw_at lw_m2 235 rfl
theorem q1205 : (Jvm.Cond.selects "VowelChoir$Again" ({ cls := "java/lang/Object", name := "getClass", desc := "()Ljava/lang/Class;" } : Jvm.MethodName) ({ cls := "java/lang/Object", name := "getClass", desc := "()Ljava/lang/Class;" } : Jvm.MethodName)) ∈ lw_all := lw_g (lw_at lw_m5 147 rfl) rfl
theorem q1578 : (Jvm.Cond.instantiable "VowelChoir$Again" (2 : Nat)) ∈ lw_all := lw_g (lw_at lw_m7 40 rfl) rfl
theorem q1580 : (Jvm.Cond.instanceMethod ({ cls := "VowelChoir$Again", name := "<init>", desc := "(I)V" } : Jvm.MethodName)) ∈ lw_all := lw_g (lw_at lw_m7 42 rfl) rfl
theorem q1581 : (Jvm.Cond.code ({ cls := "VowelChoir$Again", name := "<init>", desc := "(I)V" } : Jvm.MethodName) prog_3_method_1_code (2 : Nat) (Option.none : Option Jvm.ClassFile.FieldType)) ∈ lw_all := lw_g (lw_at lw_m7 43 rfl) rfl
theorem q1582 : (Jvm.Cond.methodLinkNest "VowelChoir$Again" (3 : Nat) ({ cls := "VowelChoir$Step", name := "<init>", desc := "()V" } : Jvm.MethodName) "VowelChoir") ∈ lw_tbl := lw_at lw_m7 44 rfl
theorem q1583 : (Jvm.Cond.classLink "VowelChoir$Again" (9 : Nat) "java/util/ArrayList") ∈ lw_all := lw_g (lw_at lw_m7 45 rfl) rfl
theorem q1584 : (Jvm.Cond.methodLink "VowelChoir$Again" (11 : Nat) ({ cls := "java/util/ArrayList", name := "<init>", desc := "(I)V" } : Jvm.MethodName)) ∈ lw_all := lw_g (lw_at lw_m7 46 rfl) rfl
theorem q1585 : (Jvm.Cond.fieldLink "VowelChoir$Again" (20 : Nat) "VowelChoir$Again" "times" "I") ∈ lw_all := lw_g (lw_at lw_m7 47 rfl) rfl
theorem q1586 : (Jvm.Cond.fieldLink "VowelChoir$Again" (14 : Nat) "VowelChoir$Again" "steps" "Ljava/util/ArrayList;") ∈ lw_all := lw_g (lw_at lw_m7 48 rfl) rfl
theorem q1588 : (Jvm.Cond.laysFinal "VowelChoir$Again" "VowelChoir$Again" "times" "I") ∈ lw_all := lw_g (lw_at lw_m7 50 rfl) rfl
theorem q1589 : (Jvm.Cond.soleField "VowelChoir$Again" "times") ∈ lw_all := lw_g (lw_at lw_m7 51 rfl) rfl
theorem q1590 : (Jvm.Cond.laysFinal "VowelChoir$Again" "VowelChoir$Again" "steps" "Ljava/util/ArrayList;") ∈ lw_all := lw_g (lw_at lw_m7 52 rfl) rfl
theorem q1591 : (Jvm.Cond.soleField "VowelChoir$Again" "steps") ∈ lw_all := lw_g (lw_at lw_m7 53 rfl) rfl
theorem q1592 : (Jvm.Cond.superclass "VowelChoir$Again" "VowelChoir$Step") ∈ lw_all := lw_g (lw_at lw_m7 54 rfl) rfl
theorem q1604 : (Jvm.Cond.selects "VowelChoir$Again" ({ cls := "VowelChoir$Step", name := "goes", desc := "(LVowelChoir$Choir;)V" } : Jvm.MethodName) ({ cls := "VowelChoir$Again", name := "goes", desc := "(LVowelChoir$Choir;)V" } : Jvm.MethodName)) ∈ lw_all := lw_g (lw_at lw_m7 66 rfl) rfl
theorem q1605 : (Jvm.Cond.instanceMethod ({ cls := "VowelChoir$Again", name := "goes", desc := "(LVowelChoir$Choir;)V" } : Jvm.MethodName)) ∈ lw_all := lw_g (lw_at lw_m7 67 rfl) rfl
theorem q1606 : (Jvm.Cond.code ({ cls := "VowelChoir$Again", name := "goes", desc := "(LVowelChoir$Choir;)V" } : Jvm.MethodName) prog_3_method_2_code (4 : Nat) (Option.none : Option Jvm.ClassFile.FieldType)) ∈ lw_all := lw_g (lw_at lw_m7 68 rfl) rfl
theorem q1607 : (Jvm.Cond.methodLink "VowelChoir$Again" (24 : Nat) ({ cls := "VowelChoir$Again", name := "may", desc := "(LVowelChoir$Choir;)Z" } : Jvm.MethodName)) ∈ lw_all := lw_g (lw_at lw_m7 69 rfl) rfl
theorem q1608 : (Jvm.Cond.sameMethod "VowelChoir$Again" "VowelChoir$Step" "may" "(LVowelChoir$Choir;)Z") ∈ lw_all := lw_g (lw_at lw_m7 70 rfl) rfl
theorem q1611 : (Jvm.Cond.methodLink "VowelChoir$Again" (32 : Nat) ({ cls := "java/util/ArrayList", name := "size", desc := "()I" } : Jvm.MethodName)) ∈ lw_all := lw_g (lw_at lw_m7 73 rfl) rfl
theorem q1612 : (Jvm.Cond.methodLink "VowelChoir$Again" (36 : Nat) ({ cls := "java/util/ArrayList", name := "get", desc := "(I)Ljava/lang/Object;" } : Jvm.MethodName)) ∈ lw_all := lw_g (lw_at lw_m7 74 rfl) rfl
theorem q1613 : (Jvm.Cond.classLink "VowelChoir$Again" (4 : Nat) "VowelChoir$Step") ∈ lw_all := lw_g (lw_at lw_m7 75 rfl) rfl
theorem q1614 : (Jvm.Cond.methodLink "VowelChoir$Again" (40 : Nat) ({ cls := "VowelChoir$Step", name := "goes", desc := "(LVowelChoir$Choir;)V" } : Jvm.MethodName)) ∈ lw_all := lw_g (lw_at lw_m7 76 rfl) rfl
theorem q2628 : (Jvm.Cond.castable "VowelChoir$Again" "VowelChoir$Step") ∈ lw_tbl := lw_at lw_m11 130 rfl
theorem q2666 : (Jvm.Cond.castable "VowelChoir$Again" "java/lang/Object") ∈ lw_tbl := lw_at lw_m11 168 rfl
theorem in_X32 : ∀ w ∈ wsX320, w ∈ lw_all := lw_in wsX320 [1588, 1590] (by decide +kernel) (by decide +kernel)
/-! VowelChoir$BookReader -/
set_option maxRecDepth 100000
def RX33 : String := "VowelChoir$BookReader"
def TX33 : u_T := fun k => match k with
  | 0 => ("VowelChoir$Reader", "text", "[B", true)
  | 1 => ("VowelChoir$Reader", "size", "I", true)
  | 2 => ("VowelChoir$Reader", "next", "I", false)
  | 3 => ("VowelChoir$Reader", "from", "I", false)
  | 4 => ("VowelChoir$Reader", "open", "I", false)
  | 5 => ("VowelChoir$BookReader", "notes", "I", true)
  | 6 => ("VowelChoir$BookReader", "read", "[I", true)
  | _ => ("VowelChoir$BookReader", "many", "I", false)
def tyX33 : Nat → FieldType := fun k => match k with
  | 0 => .array .byte
  | 1 => .int
  | 2 => .int
  | 3 => .int
  | 4 => .int
  | 5 => .int
  | 6 => .array .int
  | _ => .int
abbrev wsX330 : List Cond := u_ws RX33 TX33 8
theorem nmX33 : ∀ a, a < 8 → ∀ b, b < 8 → a ≠ b → (TX33 a).2.1 ≠ (TX33 b).2.1 := by decide +kernel
theorem tyX33_ok : ∀ k, k < 8 → parseFieldDescriptor (TX33 k).2.2.1 = some (tyX33 k) := by decide +kernel
abbrev cX33_init : ByteArray := prog_4_method_1_code
def yX33_init : MethodName := ⟨RX33, "<init>", "([BII)V"⟩
def dkwX33_init_0 : List UInt8 := [42, 43, 28, 183, 0, 3, 42, 16, 20, 188, 10, 181, 0, 9, 42, 29, 181, 0, 15, 177]
abbrev dktX33_init_0 : List UInt8 := dkwX33_init_0 ++ []
theorem dksX33_init_0 : cX33_init.data.toList.drop 0 = dktX33_init_0 := by decide +kernel
theorem dX33_init_0 : decode cX33_init 0 = .ok (.aload_n 0, 1) := dk_42 (dk_at dksX33_init_0 0 rfl rfl)
theorem dX33_init_1 : decode cX33_init 1 = .ok (.aload_n 1, 1) := dk_43 (dk_at dksX33_init_0 1 rfl rfl)
theorem dX33_init_2 : decode cX33_init 2 = .ok (.iload_n 2, 1) := dk_28 (dk_at dksX33_init_0 2 rfl rfl)
theorem dX33_init_3 : decode cX33_init 3 = .ok (.invokespecial 3, 3) := dk_183 0 3 (dk_at dksX33_init_0 3 rfl rfl)
theorem dX33_init_6 : decode cX33_init 6 = .ok (.aload_n 0, 1) := dk_42 (dk_at dksX33_init_0 6 rfl rfl)
theorem dX33_init_7 : decode cX33_init 7 = .ok (.bipush 20, 2) := dk_16 20 (dk_at dksX33_init_0 7 rfl rfl)
theorem dX33_init_9 : decode cX33_init 9 = .ok (.newarray .int, 2) := dk_188_10 (dk_at dksX33_init_0 9 rfl rfl)
theorem dX33_init_11 : decode cX33_init 11 = .ok (.putfield 9, 3) := dk_181 0 9 (dk_at dksX33_init_0 11 rfl rfl)
theorem dX33_init_14 : decode cX33_init 14 = .ok (.aload_n 0, 1) := dk_42 (dk_at dksX33_init_0 14 rfl rfl)
theorem dX33_init_15 : decode cX33_init 15 = .ok (.iload_n 3, 1) := dk_29 (dk_at dksX33_init_0 15 rfl rfl)
theorem dX33_init_16 : decode cX33_init 16 = .ok (.putfield 15, 3) := dk_181 0 15 (dk_at dksX33_init_0 16 rfl rfl)
theorem dX33_init_19 : decode cX33_init 19 = .ok (.return_, 1) := dk_177 (dk_at dksX33_init_0 19 rfl rfl)
abbrev cX33_reads : ByteArray := prog_4_method_2_code
def yX33_reads : MethodName := ⟨RX33, "reads", "()[I"⟩
def dkwX33_reads_4 : List UInt8 := [180, 0, 45, 4, 96, 181, 0, 45, 42, 182, 0, 19, 87, 167, 255, 177, 42, 180, 0, 9, 176]
abbrev dktX33_reads_4 : List UInt8 := dkwX33_reads_4 ++ []
def dkwX33_reads_3 : List UInt8 := [183, 0, 38, 191, 42, 180, 0, 9, 27, 42, 3, 4, 182, 0, 29, 79, 42, 16, 59, 182, 0, 41, 42, 89]
abbrev dktX33_reads_3 : List UInt8 := dkwX33_reads_3 ++ dktX33_reads_4
def dkwX33_reads_2 : List UInt8 := [182, 0, 29, 60, 42, 180, 0, 9, 27, 46, 2, 159, 0, 16, 187, 0, 33, 89, 5, 42, 180, 0, 35]
abbrev dktX33_reads_2 : List UInt8 := dkwX33_reads_2 ++ dktX33_reads_3
def dkwX33_reads_1 : List UInt8 := [182, 0, 19, 87, 42, 180, 0, 23, 42, 180, 0, 26, 162, 0, 74, 42, 3, 42, 180, 0, 15, 4, 100]
abbrev dktX33_reads_1 : List UInt8 := dkwX33_reads_1 ++ dktX33_reads_2
def dkwX33_reads_0 : List UInt8 := [3, 60, 27, 16, 20, 162, 0, 16, 42, 180, 0, 9, 27, 2, 79, 132, 1, 1, 167, 255, 240, 42]
abbrev dktX33_reads_0 : List UInt8 := dkwX33_reads_0 ++ dktX33_reads_1
theorem dksX33_reads_0 : cX33_reads.data.toList.drop 0 = dktX33_reads_0 := by decide +kernel
theorem dksX33_reads_1 : cX33_reads.data.toList.drop 22 = dktX33_reads_1 := dk_seg dksX33_reads_0 22 rfl rfl
theorem dksX33_reads_2 : cX33_reads.data.toList.drop 45 = dktX33_reads_2 := dk_seg dksX33_reads_1 23 rfl rfl
theorem dksX33_reads_3 : cX33_reads.data.toList.drop 68 = dktX33_reads_3 := dk_seg dksX33_reads_2 23 rfl rfl
theorem dksX33_reads_4 : cX33_reads.data.toList.drop 92 = dktX33_reads_4 := dk_seg dksX33_reads_3 24 rfl rfl
theorem dX33_reads_0 : decode cX33_reads 0 = .ok (.iconst 0, 1) := dk_3 (dk_at dksX33_reads_0 0 rfl rfl)
theorem dX33_reads_1 : decode cX33_reads 1 = .ok (.istore_n 1, 1) := dk_60 (dk_at dksX33_reads_0 1 rfl rfl)
theorem dX33_reads_2 : decode cX33_reads 2 = .ok (.iload_n 1, 1) := dk_27 (dk_at dksX33_reads_0 2 rfl rfl)
theorem dX33_reads_3 : decode cX33_reads 3 = .ok (.bipush 20, 2) := dk_16 20 (dk_at dksX33_reads_0 3 rfl rfl)
theorem dX33_reads_5 : decode cX33_reads 5 = .ok (.if_icmp .ge 16, 3) := dk_162 0 16 (dk_at dksX33_reads_0 5 rfl rfl)
theorem dX33_reads_8 : decode cX33_reads 8 = .ok (.aload_n 0, 1) := dk_42 (dk_at dksX33_reads_0 8 rfl rfl)
theorem dX33_reads_9 : decode cX33_reads 9 = .ok (.getfield 9, 3) := dk_180 0 9 (dk_at dksX33_reads_0 9 rfl rfl)
theorem dX33_reads_12 : decode cX33_reads 12 = .ok (.iload_n 1, 1) := dk_27 (dk_at dksX33_reads_0 12 rfl rfl)
theorem dX33_reads_13 : decode cX33_reads 13 = .ok (.iconst (-1), 1) := dk_2 (dk_at dksX33_reads_0 13 rfl rfl)
theorem dX33_reads_14 : decode cX33_reads 14 = .ok (.iastore, 1) := dk_79 (dk_at dksX33_reads_0 14 rfl rfl)
theorem dX33_reads_15 : decode cX33_reads 15 = .ok (.iinc 1 1, 3) := dk_132 1 1 (dk_at dksX33_reads_0 15 rfl rfl)
theorem dX33_reads_18 : decode cX33_reads 18 = .ok (.goto (-16), 3) := dk_167 255 240 (dk_at dksX33_reads_0 18 rfl rfl)
theorem dX33_reads_21 : decode cX33_reads 21 = .ok (.aload_n 0, 1) := dk_42 (dk_at dksX33_reads_0 21 rfl rfl)
theorem dX33_reads_22 : decode cX33_reads 22 = .ok (.invokevirtual 19, 3) := dk_182 0 19 (dk_at dksX33_reads_1 0 rfl rfl)
theorem dX33_reads_25 : decode cX33_reads 25 = .ok (.pop, 1) := dk_87 (dk_at dksX33_reads_1 3 rfl rfl)
theorem dX33_reads_26 : decode cX33_reads 26 = .ok (.aload_n 0, 1) := dk_42 (dk_at dksX33_reads_1 4 rfl rfl)
theorem dX33_reads_27 : decode cX33_reads 27 = .ok (.getfield 23, 3) := dk_180 0 23 (dk_at dksX33_reads_1 5 rfl rfl)
theorem dX33_reads_30 : decode cX33_reads 30 = .ok (.aload_n 0, 1) := dk_42 (dk_at dksX33_reads_1 8 rfl rfl)
theorem dX33_reads_31 : decode cX33_reads 31 = .ok (.getfield 26, 3) := dk_180 0 26 (dk_at dksX33_reads_1 9 rfl rfl)
theorem dX33_reads_34 : decode cX33_reads 34 = .ok (.if_icmp .ge 74, 3) := dk_162 0 74 (dk_at dksX33_reads_1 12 rfl rfl)
theorem dX33_reads_37 : decode cX33_reads 37 = .ok (.aload_n 0, 1) := dk_42 (dk_at dksX33_reads_1 15 rfl rfl)
theorem dX33_reads_38 : decode cX33_reads 38 = .ok (.iconst 0, 1) := dk_3 (dk_at dksX33_reads_1 16 rfl rfl)
theorem dX33_reads_39 : decode cX33_reads 39 = .ok (.aload_n 0, 1) := dk_42 (dk_at dksX33_reads_1 17 rfl rfl)
theorem dX33_reads_40 : decode cX33_reads 40 = .ok (.getfield 15, 3) := dk_180 0 15 (dk_at dksX33_reads_1 18 rfl rfl)
theorem dX33_reads_43 : decode cX33_reads 43 = .ok (.iconst 1, 1) := dk_4 (dk_at dksX33_reads_1 21 rfl rfl)
theorem dX33_reads_44 : decode cX33_reads 44 = .ok (.isub, 1) := dk_100 (dk_at dksX33_reads_1 22 rfl rfl)
theorem dX33_reads_45 : decode cX33_reads 45 = .ok (.invokevirtual 29, 3) := dk_182 0 29 (dk_at dksX33_reads_2 0 rfl rfl)
theorem dX33_reads_48 : decode cX33_reads 48 = .ok (.istore_n 1, 1) := dk_60 (dk_at dksX33_reads_2 3 rfl rfl)
theorem dX33_reads_49 : decode cX33_reads 49 = .ok (.aload_n 0, 1) := dk_42 (dk_at dksX33_reads_2 4 rfl rfl)
theorem dX33_reads_50 : decode cX33_reads 50 = .ok (.getfield 9, 3) := dk_180 0 9 (dk_at dksX33_reads_2 5 rfl rfl)
theorem dX33_reads_53 : decode cX33_reads 53 = .ok (.iload_n 1, 1) := dk_27 (dk_at dksX33_reads_2 8 rfl rfl)
theorem dX33_reads_54 : decode cX33_reads 54 = .ok (.iaload, 1) := dk_46 (dk_at dksX33_reads_2 9 rfl rfl)
theorem dX33_reads_55 : decode cX33_reads 55 = .ok (.iconst (-1), 1) := dk_2 (dk_at dksX33_reads_2 10 rfl rfl)
theorem dX33_reads_56 : decode cX33_reads 56 = .ok (.if_icmp .eq 16, 3) := dk_159 0 16 (dk_at dksX33_reads_2 11 rfl rfl)
theorem dX33_reads_59 : decode cX33_reads 59 = .ok (.new 33, 3) := dk_187 0 33 (dk_at dksX33_reads_2 14 rfl rfl)
theorem dX33_reads_62 : decode cX33_reads 62 = .ok (.dup, 1) := dk_89 (dk_at dksX33_reads_2 17 rfl rfl)
theorem dX33_reads_63 : decode cX33_reads 63 = .ok (.iconst 2, 1) := dk_5 (dk_at dksX33_reads_2 18 rfl rfl)
theorem dX33_reads_64 : decode cX33_reads 64 = .ok (.aload_n 0, 1) := dk_42 (dk_at dksX33_reads_2 19 rfl rfl)
theorem dX33_reads_65 : decode cX33_reads 65 = .ok (.getfield 35, 3) := dk_180 0 35 (dk_at dksX33_reads_2 20 rfl rfl)
theorem dX33_reads_68 : decode cX33_reads 68 = .ok (.invokespecial 38, 3) := dk_183 0 38 (dk_at dksX33_reads_3 0 rfl rfl)
theorem dX33_reads_71 : decode cX33_reads 71 = .ok (.athrow, 1) := dk_191 (dk_at dksX33_reads_3 3 rfl rfl)
theorem dX33_reads_72 : decode cX33_reads 72 = .ok (.aload_n 0, 1) := dk_42 (dk_at dksX33_reads_3 4 rfl rfl)
theorem dX33_reads_73 : decode cX33_reads 73 = .ok (.getfield 9, 3) := dk_180 0 9 (dk_at dksX33_reads_3 5 rfl rfl)
theorem dX33_reads_76 : decode cX33_reads 76 = .ok (.iload_n 1, 1) := dk_27 (dk_at dksX33_reads_3 8 rfl rfl)
theorem dX33_reads_77 : decode cX33_reads 77 = .ok (.aload_n 0, 1) := dk_42 (dk_at dksX33_reads_3 9 rfl rfl)
theorem dX33_reads_78 : decode cX33_reads 78 = .ok (.iconst 0, 1) := dk_3 (dk_at dksX33_reads_3 10 rfl rfl)
theorem dX33_reads_79 : decode cX33_reads 79 = .ok (.iconst 1, 1) := dk_4 (dk_at dksX33_reads_3 11 rfl rfl)
theorem dX33_reads_80 : decode cX33_reads 80 = .ok (.invokevirtual 29, 3) := dk_182 0 29 (dk_at dksX33_reads_3 12 rfl rfl)
theorem dX33_reads_83 : decode cX33_reads 83 = .ok (.iastore, 1) := dk_79 (dk_at dksX33_reads_3 15 rfl rfl)
theorem dX33_reads_84 : decode cX33_reads 84 = .ok (.aload_n 0, 1) := dk_42 (dk_at dksX33_reads_3 16 rfl rfl)
theorem dX33_reads_85 : decode cX33_reads 85 = .ok (.bipush 59, 2) := dk_16 59 (dk_at dksX33_reads_3 17 rfl rfl)
theorem dX33_reads_87 : decode cX33_reads 87 = .ok (.invokevirtual 41, 3) := dk_182 0 41 (dk_at dksX33_reads_3 19 rfl rfl)
theorem dX33_reads_90 : decode cX33_reads 90 = .ok (.aload_n 0, 1) := dk_42 (dk_at dksX33_reads_3 22 rfl rfl)
theorem dX33_reads_91 : decode cX33_reads 91 = .ok (.dup, 1) := dk_89 (dk_at dksX33_reads_3 23 rfl rfl)
theorem dX33_reads_92 : decode cX33_reads 92 = .ok (.getfield 45, 3) := dk_180 0 45 (dk_at dksX33_reads_4 0 rfl rfl)
theorem dX33_reads_95 : decode cX33_reads 95 = .ok (.iconst 1, 1) := dk_4 (dk_at dksX33_reads_4 3 rfl rfl)
theorem dX33_reads_96 : decode cX33_reads 96 = .ok (.iadd, 1) := dk_96 (dk_at dksX33_reads_4 4 rfl rfl)
theorem dX33_reads_97 : decode cX33_reads 97 = .ok (.putfield 45, 3) := dk_181 0 45 (dk_at dksX33_reads_4 5 rfl rfl)
theorem dX33_reads_100 : decode cX33_reads 100 = .ok (.aload_n 0, 1) := dk_42 (dk_at dksX33_reads_4 8 rfl rfl)
theorem dX33_reads_101 : decode cX33_reads 101 = .ok (.invokevirtual 19, 3) := dk_182 0 19 (dk_at dksX33_reads_4 9 rfl rfl)
theorem dX33_reads_104 : decode cX33_reads 104 = .ok (.pop, 1) := dk_87 (dk_at dksX33_reads_4 12 rfl rfl)
theorem dX33_reads_105 : decode cX33_reads 105 = .ok (.goto (-79), 3) := dk_167 255 177 (dk_at dksX33_reads_4 13 rfl rfl)
theorem dX33_reads_108 : decode cX33_reads 108 = .ok (.aload_n 0, 1) := dk_42 (dk_at dksX33_reads_4 16 rfl rfl)
theorem dX33_reads_109 : decode cX33_reads 109 = .ok (.getfield 9, 3) := dk_180 0 9 (dk_at dksX33_reads_4 17 rfl rfl)
theorem dX33_reads_112 : decode cX33_reads 112 = .ok (.areturn, 1) := dk_176 (dk_at dksX33_reads_4 20 rfl rfl)
theorem q151 : (Jvm.Cond.initialized "VowelChoir$BookReader") ∈ lw_all := lw_g (lw_at lw_m1 53 rfl) rfl
theorem q956 : (Jvm.Cond.fieldLink "VowelChoir$BookReader" (26 : Nat) "VowelChoir$BookReader" "size" "I") ∈ lw_all := lw_g (lw_at lw_m4 138 rfl) rfl
theorem q957 : (Jvm.Cond.sameField "VowelChoir$BookReader" "VowelChoir$Reader" "size" "I") ∈ lw_all := lw_g (lw_at lw_m4 139 rfl) rfl
theorem q965 : (Jvm.Cond.fieldLink "VowelChoir$BookReader" (23 : Nat) "VowelChoir$BookReader" "next" "I") ∈ lw_all := lw_g (lw_at lw_m4 147 rfl) rfl
theorem q966 : (Jvm.Cond.sameField "VowelChoir$BookReader" "VowelChoir$Reader" "next" "I") ∈ lw_all := lw_g (lw_at lw_m4 148 rfl) rfl
theorem q967 : (Jvm.Cond.fieldLink "VowelChoir$BookReader" (35 : Nat) "VowelChoir$BookReader" "from" "I") ∈ lw_all := lw_g (lw_at lw_m4 149 rfl) rfl
theorem q968 : (Jvm.Cond.sameField "VowelChoir$BookReader" "VowelChoir$Reader" "from" "I") ∈ lw_all := lw_g (lw_at lw_m4 150 rfl) rfl
theorem q1206 : (Jvm.Cond.selects "VowelChoir$BookReader" ({ cls := "java/lang/Object", name := "getClass", desc := "()Ljava/lang/Class;" } : Jvm.MethodName) ({ cls := "java/lang/Object", name := "getClass", desc := "()Ljava/lang/Class;" } : Jvm.MethodName)) ∈ lw_all := lw_g (lw_at lw_m5 148 rfl) rfl
theorem q1678 : (Jvm.Cond.instantiable "VowelChoir$BookReader" (8 : Nat)) ∈ lw_all := lw_g (lw_at lw_m7 140 rfl) rfl
theorem q1680 : (Jvm.Cond.instanceMethod ({ cls := "VowelChoir$BookReader", name := "<init>", desc := "([BII)V" } : Jvm.MethodName)) ∈ lw_all := lw_g (lw_at lw_m7 142 rfl) rfl
theorem q1681 : (Jvm.Cond.code ({ cls := "VowelChoir$BookReader", name := "<init>", desc := "([BII)V" } : Jvm.MethodName) prog_4_method_1_code (4 : Nat) (Option.none : Option Jvm.ClassFile.FieldType)) ∈ lw_all := lw_g (lw_at lw_m7 143 rfl) rfl
theorem q1682 : (Jvm.Cond.methodLink "VowelChoir$BookReader" (3 : Nat) ({ cls := "VowelChoir$Reader", name := "<init>", desc := "([BI)V" } : Jvm.MethodName)) ∈ lw_all := lw_g (lw_at lw_m7 144 rfl) rfl
theorem q1683 : (Jvm.Cond.fieldLink "VowelChoir$BookReader" (15 : Nat) "VowelChoir$BookReader" "notes" "I") ∈ lw_all := lw_g (lw_at lw_m7 145 rfl) rfl
theorem q1684 : (Jvm.Cond.fieldLink "VowelChoir$BookReader" (9 : Nat) "VowelChoir$BookReader" "read" "[I") ∈ lw_all := lw_g (lw_at lw_m7 146 rfl) rfl
theorem q1685 : (Jvm.Cond.fieldLink "VowelChoir$BookReader" (45 : Nat) "VowelChoir$BookReader" "many" "I") ∈ lw_all := lw_g (lw_at lw_m7 147 rfl) rfl
theorem q1687 : (Jvm.Cond.laysFinal "VowelChoir$BookReader" "VowelChoir$BookReader" "notes" "I") ∈ lw_all := lw_g (lw_at lw_m7 149 rfl) rfl
theorem q1688 : (Jvm.Cond.soleField "VowelChoir$BookReader" "notes") ∈ lw_all := lw_g (lw_at lw_m7 150 rfl) rfl
theorem q1689 : (Jvm.Cond.laysFinal "VowelChoir$BookReader" "VowelChoir$BookReader" "read" "[I") ∈ lw_all := lw_g (lw_at lw_m7 151 rfl) rfl
theorem q1690 : (Jvm.Cond.soleField "VowelChoir$BookReader" "read") ∈ lw_all := lw_g (lw_at lw_m7 152 rfl) rfl
theorem q1691 : (Jvm.Cond.lays "VowelChoir$BookReader" "VowelChoir$BookReader" "many" "I") ∈ lw_all := lw_g (lw_at lw_m7 153 rfl) rfl
theorem q1692 : (Jvm.Cond.soleField "VowelChoir$BookReader" "many") ∈ lw_all := lw_g (lw_at lw_m7 154 rfl) rfl
theorem q1693 : (Jvm.Cond.laysFinal "VowelChoir$BookReader" "VowelChoir$Reader" "text" "[B") ∈ lw_all := lw_g (lw_at lw_m7 155 rfl) rfl
theorem q1694 : (Jvm.Cond.laysFinal "VowelChoir$BookReader" "VowelChoir$Reader" "size" "I") ∈ lw_all := lw_g (lw_at lw_m7 156 rfl) rfl
theorem q1695 : (Jvm.Cond.lays "VowelChoir$BookReader" "VowelChoir$Reader" "next" "I") ∈ lw_all := lw_g (lw_at lw_m7 157 rfl) rfl
theorem q1696 : (Jvm.Cond.lays "VowelChoir$BookReader" "VowelChoir$Reader" "from" "I") ∈ lw_all := lw_g (lw_at lw_m7 158 rfl) rfl
theorem q1697 : (Jvm.Cond.lays "VowelChoir$BookReader" "VowelChoir$Reader" "open" "I") ∈ lw_all := lw_g (lw_at lw_m7 159 rfl) rfl
theorem q1698 : (Jvm.Cond.superclass "VowelChoir$BookReader" "VowelChoir$Reader") ∈ lw_all := lw_g (lw_at lw_m7 160 rfl) rfl
theorem q1700 : (Jvm.Cond.instanceMethod ({ cls := "VowelChoir$BookReader", name := "reads", desc := "()[I" } : Jvm.MethodName)) ∈ lw_all := lw_g (lw_at lw_m7 162 rfl) rfl
theorem q1701 : (Jvm.Cond.selects "VowelChoir$BookReader" ({ cls := "VowelChoir$BookReader", name := "reads", desc := "()[I" } : Jvm.MethodName) ({ cls := "VowelChoir$BookReader", name := "reads", desc := "()[I" } : Jvm.MethodName)) ∈ lw_all := lw_g (lw_at lw_m7 163 rfl) rfl
theorem q1702 : (Jvm.Cond.code ({ cls := "VowelChoir$BookReader", name := "reads", desc := "()[I" } : Jvm.MethodName) prog_4_method_2_code (2 : Nat) (Option.some (Jvm.ClassFile.FieldType.array Jvm.ClassFile.FieldType.int))) ∈ lw_all := lw_g (lw_at lw_m7 164 rfl) rfl
theorem q1703 : (Jvm.Cond.methodLink "VowelChoir$BookReader" (19 : Nat) ({ cls := "VowelChoir$BookReader", name := "sign", desc := "()I" } : Jvm.MethodName)) ∈ lw_all := lw_g (lw_at lw_m7 165 rfl) rfl
theorem q1704 : (Jvm.Cond.sameMethod "VowelChoir$BookReader" "VowelChoir$Reader" "sign" "()I") ∈ lw_all := lw_g (lw_at lw_m7 166 rfl) rfl
theorem q1705 : (Jvm.Cond.selects "VowelChoir$BookReader" ({ cls := "VowelChoir$BookReader", name := "sign", desc := "()I" } : Jvm.MethodName) ({ cls := "VowelChoir$Reader", name := "sign", desc := "()I" } : Jvm.MethodName)) ∈ lw_all := lw_g (lw_at lw_m7 167 rfl) rfl
theorem q1706 : (Jvm.Cond.methodLink "VowelChoir$BookReader" (29 : Nat) ({ cls := "VowelChoir$BookReader", name := "number", desc := "(II)I" } : Jvm.MethodName)) ∈ lw_all := lw_g (lw_at lw_m7 168 rfl) rfl
theorem q1707 : (Jvm.Cond.sameMethod "VowelChoir$BookReader" "VowelChoir$Reader" "number" "(II)I") ∈ lw_all := lw_g (lw_at lw_m7 169 rfl) rfl
theorem q1708 : (Jvm.Cond.selects "VowelChoir$BookReader" ({ cls := "VowelChoir$BookReader", name := "number", desc := "(II)I" } : Jvm.MethodName) ({ cls := "VowelChoir$Reader", name := "number", desc := "(II)I" } : Jvm.MethodName)) ∈ lw_all := lw_g (lw_at lw_m7 170 rfl) rfl
theorem q1709 : (Jvm.Cond.classLink "VowelChoir$BookReader" (33 : Nat) "VowelChoir$Wrong") ∈ lw_all := lw_g (lw_at lw_m7 171 rfl) rfl
theorem q1710 : (Jvm.Cond.methodLink "VowelChoir$BookReader" (38 : Nat) ({ cls := "VowelChoir$Wrong", name := "<init>", desc := "(II)V" } : Jvm.MethodName)) ∈ lw_all := lw_g (lw_at lw_m7 172 rfl) rfl
theorem q1711 : (Jvm.Cond.methodLink "VowelChoir$BookReader" (41 : Nat) ({ cls := "VowelChoir$BookReader", name := "need", desc := "(I)V" } : Jvm.MethodName)) ∈ lw_all := lw_g (lw_at lw_m7 173 rfl) rfl
theorem q1712 : (Jvm.Cond.sameMethod "VowelChoir$BookReader" "VowelChoir$Reader" "need" "(I)V") ∈ lw_all := lw_g (lw_at lw_m7 174 rfl) rfl
theorem q1713 : (Jvm.Cond.selects "VowelChoir$BookReader" ({ cls := "VowelChoir$BookReader", name := "need", desc := "(I)V" } : Jvm.MethodName) ({ cls := "VowelChoir$Reader", name := "need", desc := "(I)V" } : Jvm.MethodName)) ∈ lw_all := lw_g (lw_at lw_m7 175 rfl) rfl
theorem q2616 : (Jvm.Cond.selects "VowelChoir$BookReader" ({ cls := "VowelChoir$Reader", name := "sign", desc := "()I" } : Jvm.MethodName) ({ cls := "VowelChoir$Reader", name := "sign", desc := "()I" } : Jvm.MethodName)) ∈ lw_all := lw_g (lw_at lw_m11 118 rfl) rfl
theorem q2623 : (Jvm.Cond.selects "VowelChoir$BookReader" ({ cls := "VowelChoir$Reader", name := "wrong", desc := "()LVowelChoir$Wrong;" } : Jvm.MethodName) ({ cls := "VowelChoir$Reader", name := "wrong", desc := "()LVowelChoir$Wrong;" } : Jvm.MethodName)) ∈ lw_all := lw_g (lw_at lw_m11 125 rfl) rfl
theorem q2667 : (Jvm.Cond.castable "VowelChoir$BookReader" "java/lang/Object") ∈ lw_tbl := lw_at lw_m11 169 rfl
theorem in_X33 : ∀ w ∈ wsX330, w ∈ lw_all := lw_in wsX330 [1693, 1694, 1695, 1696, 1697, 1687, 1689, 1691] (by decide +kernel) (by decide +kernel)
/-! VowelChoir$Fact -/
set_option maxRecDepth 100000
def RX4 : String := "VowelChoir$Fact"
def TX4 : u_T := fun k => match k with
  | _ => ("VowelChoir$Fact", "which", "I", true)
def tyX4 : Nat → FieldType := fun k => match k with
  | _ => .int
abbrev wsX40 : List Cond := u_ws RX4 TX4 1
theorem nmX4 : ∀ a, a < 1 → ∀ b, b < 1 → a ≠ b → (TX4 a).2.1 ≠ (TX4 b).2.1 := by decide +kernel
theorem tyX4_ok : ∀ k, k < 1 → parseFieldDescriptor (TX4 k).2.2.1 = some (tyX4 k) := by decide +kernel
abbrev cX4_init : ByteArray := prog_8_method_1_code
def yX4_init : MethodName := ⟨RX4, "<init>", "(I)V"⟩
def dkwX4_init_0 : List UInt8 := [42, 183, 0, 1, 42, 27, 181, 0, 7, 177]
abbrev dktX4_init_0 : List UInt8 := dkwX4_init_0 ++ []
theorem dksX4_init_0 : cX4_init.data.toList.drop 0 = dktX4_init_0 := by decide +kernel
theorem dX4_init_0 : decode cX4_init 0 = .ok (.aload_n 0, 1) := dk_42 (dk_at dksX4_init_0 0 rfl rfl)
theorem dX4_init_1 : decode cX4_init 1 = .ok (.invokespecial 1, 3) := dk_183 0 1 (dk_at dksX4_init_0 1 rfl rfl)
theorem dX4_init_4 : decode cX4_init 4 = .ok (.aload_n 0, 1) := dk_42 (dk_at dksX4_init_0 4 rfl rfl)
theorem dX4_init_5 : decode cX4_init 5 = .ok (.iload_n 1, 1) := dk_27 (dk_at dksX4_init_0 5 rfl rfl)
theorem dX4_init_6 : decode cX4_init 6 = .ok (.putfield 7, 3) := dk_181 0 7 (dk_at dksX4_init_0 6 rfl rfl)
theorem dX4_init_9 : decode cX4_init 9 = .ok (.return_, 1) := dk_177 (dk_at dksX4_init_0 9 rfl rfl)
abbrev cX4_of : ByteArray := prog_8_method_2_code
def yX4_of : MethodName := ⟨RX4, "of", "([I)I"⟩
def dkwX4_of_0 : List UInt8 := [43, 42, 180, 0, 7, 46, 172]
abbrev dktX4_of_0 : List UInt8 := dkwX4_of_0 ++ []
theorem dksX4_of_0 : cX4_of.data.toList.drop 0 = dktX4_of_0 := by decide +kernel
theorem dX4_of_0 : decode cX4_of 0 = .ok (.aload_n 1, 1) := dk_43 (dk_at dksX4_of_0 0 rfl rfl)
theorem dX4_of_1 : decode cX4_of 1 = .ok (.aload_n 0, 1) := dk_42 (dk_at dksX4_of_0 1 rfl rfl)
theorem dX4_of_2 : decode cX4_of 2 = .ok (.getfield 7, 3) := dk_180 0 7 (dk_at dksX4_of_0 2 rfl rfl)
theorem dX4_of_5 : decode cX4_of 5 = .ok (.iaload, 1) := dk_46 (dk_at dksX4_of_0 5 rfl rfl)
theorem dX4_of_6 : decode cX4_of 6 = .ok (.ireturn, 1) := dk_172 (dk_at dksX4_of_0 6 rfl rfl)
theorem q121 : (Jvm.Cond.initialized "VowelChoir$Fact") ∈ lw_all := lw_g (lw_at lw_m1 23 rfl) rfl
theorem q539 : (Jvm.Cond.instantiable "VowelChoir$Fact" (1 : Nat)) ∈ lw_all := lw_g (lw_at lw_m2 201 rfl) rfl
theorem q541 : (Jvm.Cond.instanceMethod ({ cls := "VowelChoir$Fact", name := "<init>", desc := "(I)V" } : Jvm.MethodName)) ∈ lw_all := lw_g (lw_at lw_m2 203 rfl) rfl
theorem q542 : (Jvm.Cond.code ({ cls := "VowelChoir$Fact", name := "<init>", desc := "(I)V" } : Jvm.MethodName) prog_8_method_1_code (2 : Nat) (Option.none : Option Jvm.ClassFile.FieldType)) ∈ lw_all := lw_g (lw_at lw_m2 204 rfl) rfl
theorem q543 : (Jvm.Cond.methodLinkNest "VowelChoir$Fact" (1 : Nat) ({ cls := "VowelChoir$Term", name := "<init>", desc := "()V" } : Jvm.MethodName) "VowelChoir") ∈ lw_tbl := lw_at lw_m2 205 rfl
theorem q547 : (Jvm.Cond.fieldLink "VowelChoir$Fact" (7 : Nat) "VowelChoir$Fact" "which" "I") ∈ lw_all := lw_g (lw_at lw_m2 209 rfl) rfl
theorem q548 : (Jvm.Cond.laysFinal "VowelChoir$Fact" "VowelChoir$Fact" "which" "I") ∈ lw_all := lw_g (lw_at lw_m2 210 rfl) rfl
theorem q549 : (Jvm.Cond.soleField "VowelChoir$Fact" "which") ∈ lw_all := lw_g (lw_at lw_m2 211 rfl) rfl
theorem q550 : (Jvm.Cond.superclass "VowelChoir$Fact" "VowelChoir$Term") ∈ lw_all := lw_g (lw_at lw_m2 212 rfl) rfl
theorem q776 : (Jvm.Cond.instanceMethod ({ cls := "VowelChoir$Fact", name := "of", desc := "([I)I" } : Jvm.MethodName)) ∈ lw_all := lw_g (lw_at lw_m3 198 rfl) rfl
theorem q777 : (Jvm.Cond.code ({ cls := "VowelChoir$Fact", name := "of", desc := "([I)I" } : Jvm.MethodName) prog_8_method_2_code (2 : Nat) (Option.some Jvm.ClassFile.FieldType.int)) ∈ lw_all := lw_g (lw_at lw_m3 199 rfl) rfl
theorem q806 : (Jvm.Cond.selects "VowelChoir$Fact" ({ cls := "VowelChoir$Term", name := "of", desc := "([I)I" } : Jvm.MethodName) ({ cls := "VowelChoir$Fact", name := "of", desc := "([I)I" } : Jvm.MethodName)) ∈ lw_all := lw_g (lw_at lw_m3 228 rfl) rfl
theorem q1210 : (Jvm.Cond.selects "VowelChoir$Fact" ({ cls := "java/lang/Object", name := "getClass", desc := "()Ljava/lang/Class;" } : Jvm.MethodName) ({ cls := "java/lang/Object", name := "getClass", desc := "()Ljava/lang/Class;" } : Jvm.MethodName)) ∈ lw_all := lw_g (lw_at lw_m5 152 rfl) rfl
theorem q2642 : (Jvm.Cond.castable "VowelChoir$Fact" "java/lang/Object") ∈ lw_tbl := lw_at lw_m11 144 rfl
theorem in_X4 : ∀ w ∈ wsX40, w ∈ lw_all := lw_in wsX40 [548] (by decide +kernel) (by decide +kernel)
/-! VowelChoir$Choir -/
set_option maxRecDepth 100000
def RX5 : String := "VowelChoir$Choir"
def TX5 : u_T := fun k => match k with
  | 0 => ("VowelChoir$Choir", "left", "[I", true)
  | 1 => ("VowelChoir$Choir", "sung", "[I", true)
  | 2 => ("VowelChoir$Choir", "today", "[I", true)
  | 3 => ("VowelChoir$Choir", "owed", "[I", true)
  | 4 => ("VowelChoir$Choir", "vowel", "[I", true)
  | 5 => ("VowelChoir$Choir", "hoarse", "I", false)
  | 6 => ("VowelChoir$Choir", "dropped", "I", false)
  | 7 => ("VowelChoir$Choir", "day", "I", false)
  | 8 => ("VowelChoir$Choir", "steps", "I", false)
  | 9 => ("VowelChoir$Choir", "done", "I", false)
  | 10 => ("VowelChoir$Choir", "refused", "I", false)
  | _ => ("VowelChoir$Choir", "this$0", "LVowelChoir;", true)
def tyX5 : Nat → FieldType := fun k => match k with
  | 0 => .array .int
  | 1 => .array .int
  | 2 => .array .int
  | 3 => .array .int
  | 4 => .array .int
  | 5 => .int
  | 6 => .int
  | 7 => .int
  | 8 => .int
  | 9 => .int
  | 10 => .int
  | _ => .object "VowelChoir"
abbrev wsX50 : List Cond := u_ws RX5 TX5 12
theorem nmX5 : ∀ a, a < 12 → ∀ b, b < 12 → a ≠ b → (TX5 a).2.1 ≠ (TX5 b).2.1 := by decide +kernel
theorem tyX5_ok : ∀ k, k < 12 → parseFieldDescriptor (TX5 k).2.2.1 = some (tyX5 k) := by decide +kernel
abbrev cX5_init : ByteArray := prog_6_method_1_code
def yX5_init : MethodName := ⟨RX5, "<init>", "(LVowelChoir;)V"⟩
def dkwX5_init_2 : List UInt8 := [181, 0, 28, 177]
abbrev dktX5_init_2 : List UInt8 := dkwX5_init_2 ++ []
def dkwX5_init_1 : List UInt8 := [181, 0, 19, 42, 16, 7, 188, 10, 181, 0, 22, 42, 16, 7, 188, 10, 181, 0, 25, 42, 16, 20, 188, 10]
abbrev dktX5_init_1 : List UInt8 := dkwX5_init_1 ++ dktX5_init_2
def dkwX5_init_0 : List UInt8 := [42, 43, 181, 0, 3, 42, 183, 0, 9, 42, 16, 7, 188, 10, 181, 0, 15, 42, 16, 7, 188, 10]
abbrev dktX5_init_0 : List UInt8 := dkwX5_init_0 ++ dktX5_init_1
theorem dksX5_init_0 : cX5_init.data.toList.drop 0 = dktX5_init_0 := by decide +kernel
theorem dksX5_init_1 : cX5_init.data.toList.drop 22 = dktX5_init_1 := dk_seg dksX5_init_0 22 rfl rfl
theorem dksX5_init_2 : cX5_init.data.toList.drop 46 = dktX5_init_2 := dk_seg dksX5_init_1 24 rfl rfl
theorem dX5_init_0 : decode cX5_init 0 = .ok (.aload_n 0, 1) := dk_42 (dk_at dksX5_init_0 0 rfl rfl)
theorem dX5_init_1 : decode cX5_init 1 = .ok (.aload_n 1, 1) := dk_43 (dk_at dksX5_init_0 1 rfl rfl)
theorem dX5_init_2 : decode cX5_init 2 = .ok (.putfield 3, 3) := dk_181 0 3 (dk_at dksX5_init_0 2 rfl rfl)
theorem dX5_init_5 : decode cX5_init 5 = .ok (.aload_n 0, 1) := dk_42 (dk_at dksX5_init_0 5 rfl rfl)
theorem dX5_init_6 : decode cX5_init 6 = .ok (.invokespecial 9, 3) := dk_183 0 9 (dk_at dksX5_init_0 6 rfl rfl)
theorem dX5_init_9 : decode cX5_init 9 = .ok (.aload_n 0, 1) := dk_42 (dk_at dksX5_init_0 9 rfl rfl)
theorem dX5_init_10 : decode cX5_init 10 = .ok (.bipush 7, 2) := dk_16 7 (dk_at dksX5_init_0 10 rfl rfl)
theorem dX5_init_12 : decode cX5_init 12 = .ok (.newarray .int, 2) := dk_188_10 (dk_at dksX5_init_0 12 rfl rfl)
theorem dX5_init_14 : decode cX5_init 14 = .ok (.putfield 15, 3) := dk_181 0 15 (dk_at dksX5_init_0 14 rfl rfl)
theorem dX5_init_17 : decode cX5_init 17 = .ok (.aload_n 0, 1) := dk_42 (dk_at dksX5_init_0 17 rfl rfl)
theorem dX5_init_18 : decode cX5_init 18 = .ok (.bipush 7, 2) := dk_16 7 (dk_at dksX5_init_0 18 rfl rfl)
theorem dX5_init_20 : decode cX5_init 20 = .ok (.newarray .int, 2) := dk_188_10 (dk_at dksX5_init_0 20 rfl rfl)
theorem dX5_init_22 : decode cX5_init 22 = .ok (.putfield 19, 3) := dk_181 0 19 (dk_at dksX5_init_1 0 rfl rfl)
theorem dX5_init_25 : decode cX5_init 25 = .ok (.aload_n 0, 1) := dk_42 (dk_at dksX5_init_1 3 rfl rfl)
theorem dX5_init_26 : decode cX5_init 26 = .ok (.bipush 7, 2) := dk_16 7 (dk_at dksX5_init_1 4 rfl rfl)
theorem dX5_init_28 : decode cX5_init 28 = .ok (.newarray .int, 2) := dk_188_10 (dk_at dksX5_init_1 6 rfl rfl)
theorem dX5_init_30 : decode cX5_init 30 = .ok (.putfield 22, 3) := dk_181 0 22 (dk_at dksX5_init_1 8 rfl rfl)
theorem dX5_init_33 : decode cX5_init 33 = .ok (.aload_n 0, 1) := dk_42 (dk_at dksX5_init_1 11 rfl rfl)
theorem dX5_init_34 : decode cX5_init 34 = .ok (.bipush 7, 2) := dk_16 7 (dk_at dksX5_init_1 12 rfl rfl)
theorem dX5_init_36 : decode cX5_init 36 = .ok (.newarray .int, 2) := dk_188_10 (dk_at dksX5_init_1 14 rfl rfl)
theorem dX5_init_38 : decode cX5_init 38 = .ok (.putfield 25, 3) := dk_181 0 25 (dk_at dksX5_init_1 16 rfl rfl)
theorem dX5_init_41 : decode cX5_init 41 = .ok (.aload_n 0, 1) := dk_42 (dk_at dksX5_init_1 19 rfl rfl)
theorem dX5_init_42 : decode cX5_init 42 = .ok (.bipush 20, 2) := dk_16 20 (dk_at dksX5_init_1 20 rfl rfl)
theorem dX5_init_44 : decode cX5_init 44 = .ok (.newarray .int, 2) := dk_188_10 (dk_at dksX5_init_1 22 rfl rfl)
theorem dX5_init_46 : decode cX5_init 46 = .ok (.putfield 28, 3) := dk_181 0 28 (dk_at dksX5_init_2 0 rfl rfl)
theorem dX5_init_49 : decode cX5_init 49 = .ok (.return_, 1) := dk_177 (dk_at dksX5_init_2 3 rfl rfl)
abbrev cX5_begins : ByteArray := prog_6_method_2_code
def yX5_begins : MethodName := ⟨RX5, "begins", "()LVowelChoir$Choir;"⟩
def dkwX5_begins_3 : List UInt8 := [167, 255, 225, 42, 182, 0, 44, 42, 3, 181, 0, 47, 42, 3, 181, 0, 50, 42, 3, 181, 0, 53, 42, 176]
abbrev dktX5_begins_3 : List UInt8 := dkwX5_begins_3 ++ []
def dkwX5_begins_2 : List UInt8 := [162, 0, 26, 42, 180, 0, 28, 27, 42, 180, 0, 3, 27, 182, 0, 35, 180, 0, 39, 79, 132, 1, 1]
abbrev dktX5_begins_2 : List UInt8 := dkwX5_begins_2 ++ dktX5_begins_3
def dkwX5_begins_1 : List UInt8 := [180, 0, 25, 27, 3, 79, 132, 1, 1, 167, 255, 226, 3, 60, 27, 42, 180, 0, 3, 182, 0, 31]
abbrev dktX5_begins_1 : List UInt8 := dkwX5_begins_1 ++ dktX5_begins_2
def dkwX5_begins_0 : List UInt8 := [3, 60, 27, 16, 7, 162, 0, 30, 42, 180, 0, 19, 27, 3, 79, 42, 180, 0, 22, 27, 3, 79, 42]
abbrev dktX5_begins_0 : List UInt8 := dkwX5_begins_0 ++ dktX5_begins_1
theorem dksX5_begins_0 : cX5_begins.data.toList.drop 0 = dktX5_begins_0 := by decide +kernel
theorem dksX5_begins_1 : cX5_begins.data.toList.drop 23 = dktX5_begins_1 := dk_seg dksX5_begins_0 23 rfl rfl
theorem dksX5_begins_2 : cX5_begins.data.toList.drop 45 = dktX5_begins_2 := dk_seg dksX5_begins_1 22 rfl rfl
theorem dksX5_begins_3 : cX5_begins.data.toList.drop 68 = dktX5_begins_3 := dk_seg dksX5_begins_2 23 rfl rfl
theorem dX5_begins_0 : decode cX5_begins 0 = .ok (.iconst 0, 1) := dk_3 (dk_at dksX5_begins_0 0 rfl rfl)
theorem dX5_begins_1 : decode cX5_begins 1 = .ok (.istore_n 1, 1) := dk_60 (dk_at dksX5_begins_0 1 rfl rfl)
theorem dX5_begins_2 : decode cX5_begins 2 = .ok (.iload_n 1, 1) := dk_27 (dk_at dksX5_begins_0 2 rfl rfl)
theorem dX5_begins_3 : decode cX5_begins 3 = .ok (.bipush 7, 2) := dk_16 7 (dk_at dksX5_begins_0 3 rfl rfl)
theorem dX5_begins_5 : decode cX5_begins 5 = .ok (.if_icmp .ge 30, 3) := dk_162 0 30 (dk_at dksX5_begins_0 5 rfl rfl)
theorem dX5_begins_8 : decode cX5_begins 8 = .ok (.aload_n 0, 1) := dk_42 (dk_at dksX5_begins_0 8 rfl rfl)
theorem dX5_begins_9 : decode cX5_begins 9 = .ok (.getfield 19, 3) := dk_180 0 19 (dk_at dksX5_begins_0 9 rfl rfl)
theorem dX5_begins_12 : decode cX5_begins 12 = .ok (.iload_n 1, 1) := dk_27 (dk_at dksX5_begins_0 12 rfl rfl)
theorem dX5_begins_13 : decode cX5_begins 13 = .ok (.iconst 0, 1) := dk_3 (dk_at dksX5_begins_0 13 rfl rfl)
theorem dX5_begins_14 : decode cX5_begins 14 = .ok (.iastore, 1) := dk_79 (dk_at dksX5_begins_0 14 rfl rfl)
theorem dX5_begins_15 : decode cX5_begins 15 = .ok (.aload_n 0, 1) := dk_42 (dk_at dksX5_begins_0 15 rfl rfl)
theorem dX5_begins_16 : decode cX5_begins 16 = .ok (.getfield 22, 3) := dk_180 0 22 (dk_at dksX5_begins_0 16 rfl rfl)
theorem dX5_begins_19 : decode cX5_begins 19 = .ok (.iload_n 1, 1) := dk_27 (dk_at dksX5_begins_0 19 rfl rfl)
theorem dX5_begins_20 : decode cX5_begins 20 = .ok (.iconst 0, 1) := dk_3 (dk_at dksX5_begins_0 20 rfl rfl)
theorem dX5_begins_21 : decode cX5_begins 21 = .ok (.iastore, 1) := dk_79 (dk_at dksX5_begins_0 21 rfl rfl)
theorem dX5_begins_22 : decode cX5_begins 22 = .ok (.aload_n 0, 1) := dk_42 (dk_at dksX5_begins_0 22 rfl rfl)
theorem dX5_begins_23 : decode cX5_begins 23 = .ok (.getfield 25, 3) := dk_180 0 25 (dk_at dksX5_begins_1 0 rfl rfl)
theorem dX5_begins_26 : decode cX5_begins 26 = .ok (.iload_n 1, 1) := dk_27 (dk_at dksX5_begins_1 3 rfl rfl)
theorem dX5_begins_27 : decode cX5_begins 27 = .ok (.iconst 0, 1) := dk_3 (dk_at dksX5_begins_1 4 rfl rfl)
theorem dX5_begins_28 : decode cX5_begins 28 = .ok (.iastore, 1) := dk_79 (dk_at dksX5_begins_1 5 rfl rfl)
theorem dX5_begins_29 : decode cX5_begins 29 = .ok (.iinc 1 1, 3) := dk_132 1 1 (dk_at dksX5_begins_1 6 rfl rfl)
theorem dX5_begins_32 : decode cX5_begins 32 = .ok (.goto (-30), 3) := dk_167 255 226 (dk_at dksX5_begins_1 9 rfl rfl)
theorem dX5_begins_35 : decode cX5_begins 35 = .ok (.iconst 0, 1) := dk_3 (dk_at dksX5_begins_1 12 rfl rfl)
theorem dX5_begins_36 : decode cX5_begins 36 = .ok (.istore_n 1, 1) := dk_60 (dk_at dksX5_begins_1 13 rfl rfl)
theorem dX5_begins_37 : decode cX5_begins 37 = .ok (.iload_n 1, 1) := dk_27 (dk_at dksX5_begins_1 14 rfl rfl)
theorem dX5_begins_38 : decode cX5_begins 38 = .ok (.aload_n 0, 1) := dk_42 (dk_at dksX5_begins_1 15 rfl rfl)
theorem dX5_begins_39 : decode cX5_begins 39 = .ok (.getfield 3, 3) := dk_180 0 3 (dk_at dksX5_begins_1 16 rfl rfl)
theorem dX5_begins_42 : decode cX5_begins 42 = .ok (.invokevirtual 31, 3) := dk_182 0 31 (dk_at dksX5_begins_1 19 rfl rfl)
theorem dX5_begins_45 : decode cX5_begins 45 = .ok (.if_icmp .ge 26, 3) := dk_162 0 26 (dk_at dksX5_begins_2 0 rfl rfl)
theorem dX5_begins_48 : decode cX5_begins 48 = .ok (.aload_n 0, 1) := dk_42 (dk_at dksX5_begins_2 3 rfl rfl)
theorem dX5_begins_49 : decode cX5_begins 49 = .ok (.getfield 28, 3) := dk_180 0 28 (dk_at dksX5_begins_2 4 rfl rfl)
theorem dX5_begins_52 : decode cX5_begins 52 = .ok (.iload_n 1, 1) := dk_27 (dk_at dksX5_begins_2 7 rfl rfl)
theorem dX5_begins_53 : decode cX5_begins 53 = .ok (.aload_n 0, 1) := dk_42 (dk_at dksX5_begins_2 8 rfl rfl)
theorem dX5_begins_54 : decode cX5_begins 54 = .ok (.getfield 3, 3) := dk_180 0 3 (dk_at dksX5_begins_2 9 rfl rfl)
theorem dX5_begins_57 : decode cX5_begins 57 = .ok (.iload_n 1, 1) := dk_27 (dk_at dksX5_begins_2 12 rfl rfl)
theorem dX5_begins_58 : decode cX5_begins 58 = .ok (.invokevirtual 35, 3) := dk_182 0 35 (dk_at dksX5_begins_2 13 rfl rfl)
theorem dX5_begins_61 : decode cX5_begins 61 = .ok (.getfield 39, 3) := dk_180 0 39 (dk_at dksX5_begins_2 16 rfl rfl)
theorem dX5_begins_64 : decode cX5_begins 64 = .ok (.iastore, 1) := dk_79 (dk_at dksX5_begins_2 19 rfl rfl)
theorem dX5_begins_65 : decode cX5_begins 65 = .ok (.iinc 1 1, 3) := dk_132 1 1 (dk_at dksX5_begins_2 20 rfl rfl)
theorem dX5_begins_68 : decode cX5_begins 68 = .ok (.goto (-31), 3) := dk_167 255 225 (dk_at dksX5_begins_3 0 rfl rfl)
theorem dX5_begins_71 : decode cX5_begins 71 = .ok (.aload_n 0, 1) := dk_42 (dk_at dksX5_begins_3 3 rfl rfl)
theorem dX5_begins_72 : decode cX5_begins 72 = .ok (.invokevirtual 44, 3) := dk_182 0 44 (dk_at dksX5_begins_3 4 rfl rfl)
theorem dX5_begins_75 : decode cX5_begins 75 = .ok (.aload_n 0, 1) := dk_42 (dk_at dksX5_begins_3 7 rfl rfl)
theorem dX5_begins_76 : decode cX5_begins 76 = .ok (.iconst 0, 1) := dk_3 (dk_at dksX5_begins_3 8 rfl rfl)
theorem dX5_begins_77 : decode cX5_begins 77 = .ok (.putfield 47, 3) := dk_181 0 47 (dk_at dksX5_begins_3 9 rfl rfl)
theorem dX5_begins_80 : decode cX5_begins 80 = .ok (.aload_n 0, 1) := dk_42 (dk_at dksX5_begins_3 12 rfl rfl)
theorem dX5_begins_81 : decode cX5_begins 81 = .ok (.iconst 0, 1) := dk_3 (dk_at dksX5_begins_3 13 rfl rfl)
theorem dX5_begins_82 : decode cX5_begins 82 = .ok (.putfield 50, 3) := dk_181 0 50 (dk_at dksX5_begins_3 14 rfl rfl)
theorem dX5_begins_85 : decode cX5_begins 85 = .ok (.aload_n 0, 1) := dk_42 (dk_at dksX5_begins_3 17 rfl rfl)
theorem dX5_begins_86 : decode cX5_begins 86 = .ok (.iconst 0, 1) := dk_3 (dk_at dksX5_begins_3 18 rfl rfl)
theorem dX5_begins_87 : decode cX5_begins 87 = .ok (.putfield 53, 3) := dk_181 0 53 (dk_at dksX5_begins_3 19 rfl rfl)
theorem dX5_begins_90 : decode cX5_begins 90 = .ok (.aload_n 0, 1) := dk_42 (dk_at dksX5_begins_3 22 rfl rfl)
theorem dX5_begins_91 : decode cX5_begins 91 = .ok (.areturn, 1) := dk_176 (dk_at dksX5_begins_3 23 rfl rfl)
abbrev cX5_breathes : ByteArray := prog_6_method_4_code
def yX5_breathes : MethodName := ⟨RX5, "breathes", "()V"⟩
def dkwX5_breathes_1 : List UInt8 := [182, 0, 65, 180, 0, 69, 79, 132, 1, 1, 167, 255, 225, 177]
abbrev dktX5_breathes_1 : List UInt8 := dkwX5_breathes_1 ++ []
def dkwX5_breathes_0 : List UInt8 := [3, 60, 27, 42, 180, 0, 3, 182, 0, 62, 162, 0, 26, 42, 180, 0, 15, 27, 42, 180, 0, 3, 27]
abbrev dktX5_breathes_0 : List UInt8 := dkwX5_breathes_0 ++ dktX5_breathes_1
theorem dksX5_breathes_0 : cX5_breathes.data.toList.drop 0 = dktX5_breathes_0 := by decide +kernel
theorem dksX5_breathes_1 : cX5_breathes.data.toList.drop 23 = dktX5_breathes_1 := dk_seg dksX5_breathes_0 23 rfl rfl
theorem dX5_breathes_0 : decode cX5_breathes 0 = .ok (.iconst 0, 1) := dk_3 (dk_at dksX5_breathes_0 0 rfl rfl)
theorem dX5_breathes_1 : decode cX5_breathes 1 = .ok (.istore_n 1, 1) := dk_60 (dk_at dksX5_breathes_0 1 rfl rfl)
theorem dX5_breathes_2 : decode cX5_breathes 2 = .ok (.iload_n 1, 1) := dk_27 (dk_at dksX5_breathes_0 2 rfl rfl)
theorem dX5_breathes_3 : decode cX5_breathes 3 = .ok (.aload_n 0, 1) := dk_42 (dk_at dksX5_breathes_0 3 rfl rfl)
theorem dX5_breathes_4 : decode cX5_breathes 4 = .ok (.getfield 3, 3) := dk_180 0 3 (dk_at dksX5_breathes_0 4 rfl rfl)
theorem dX5_breathes_7 : decode cX5_breathes 7 = .ok (.invokevirtual 62, 3) := dk_182 0 62 (dk_at dksX5_breathes_0 7 rfl rfl)
theorem dX5_breathes_10 : decode cX5_breathes 10 = .ok (.if_icmp .ge 26, 3) := dk_162 0 26 (dk_at dksX5_breathes_0 10 rfl rfl)
theorem dX5_breathes_13 : decode cX5_breathes 13 = .ok (.aload_n 0, 1) := dk_42 (dk_at dksX5_breathes_0 13 rfl rfl)
theorem dX5_breathes_14 : decode cX5_breathes 14 = .ok (.getfield 15, 3) := dk_180 0 15 (dk_at dksX5_breathes_0 14 rfl rfl)
theorem dX5_breathes_17 : decode cX5_breathes 17 = .ok (.iload_n 1, 1) := dk_27 (dk_at dksX5_breathes_0 17 rfl rfl)
theorem dX5_breathes_18 : decode cX5_breathes 18 = .ok (.aload_n 0, 1) := dk_42 (dk_at dksX5_breathes_0 18 rfl rfl)
theorem dX5_breathes_19 : decode cX5_breathes 19 = .ok (.getfield 3, 3) := dk_180 0 3 (dk_at dksX5_breathes_0 19 rfl rfl)
theorem dX5_breathes_22 : decode cX5_breathes 22 = .ok (.iload_n 1, 1) := dk_27 (dk_at dksX5_breathes_0 22 rfl rfl)
theorem dX5_breathes_23 : decode cX5_breathes 23 = .ok (.invokevirtual 65, 3) := dk_182 0 65 (dk_at dksX5_breathes_1 0 rfl rfl)
theorem dX5_breathes_26 : decode cX5_breathes 26 = .ok (.getfield 69, 3) := dk_180 0 69 (dk_at dksX5_breathes_1 3 rfl rfl)
theorem dX5_breathes_29 : decode cX5_breathes 29 = .ok (.iastore, 1) := dk_79 (dk_at dksX5_breathes_1 6 rfl rfl)
theorem dX5_breathes_30 : decode cX5_breathes 30 = .ok (.iinc 1 1, 3) := dk_132 1 1 (dk_at dksX5_breathes_1 7 rfl rfl)
theorem dX5_breathes_33 : decode cX5_breathes 33 = .ok (.goto (-31), 3) := dk_167 255 225 (dk_at dksX5_breathes_1 10 rfl rfl)
theorem dX5_breathes_36 : decode cX5_breathes 36 = .ok (.return_, 1) := dk_177 (dk_at dksX5_breathes_1 13 rfl rfl)
abbrev cX5_becomes : ByteArray := prog_6_method_3_code
def yX5_becomes : MethodName := ⟨RX5, "becomes", "(LVowelChoir$Choir;)LVowelChoir$Choir;"⟩
def dkwX5_becomes_4 : List UInt8 := [180, 0, 53, 181, 0, 53, 42, 176]
abbrev dktX5_becomes_4 : List UInt8 := dkwX5_becomes_4 ++ []
def dkwX5_becomes_3 : List UInt8 := [16, 20, 184, 0, 56, 42, 43, 180, 0, 47, 181, 0, 47, 42, 43, 180, 0, 50, 181, 0, 50, 42, 43]
abbrev dktX5_becomes_3 : List UInt8 := dkwX5_becomes_3 ++ dktX5_becomes_4
def dkwX5_becomes_2 : List UInt8 := [180, 0, 25, 3, 42, 180, 0, 25, 3, 16, 7, 184, 0, 56, 43, 180, 0, 28, 3, 42, 180, 0, 28, 3]
abbrev dktX5_becomes_2 : List UInt8 := dkwX5_becomes_2 ++ dktX5_becomes_3
def dkwX5_becomes_1 : List UInt8 := [3, 16, 7, 184, 0, 56, 43, 180, 0, 22, 3, 42, 180, 0, 22, 3, 16, 7, 184, 0, 56, 43]
abbrev dktX5_becomes_1 : List UInt8 := dkwX5_becomes_1 ++ dktX5_becomes_2
def dkwX5_becomes_0 : List UInt8 := [43, 180, 0, 15, 3, 42, 180, 0, 15, 3, 16, 7, 184, 0, 56, 43, 180, 0, 19, 3, 42, 180, 0, 19]
abbrev dktX5_becomes_0 : List UInt8 := dkwX5_becomes_0 ++ dktX5_becomes_1
theorem dksX5_becomes_0 : cX5_becomes.data.toList.drop 0 = dktX5_becomes_0 := by decide +kernel
theorem dksX5_becomes_1 : cX5_becomes.data.toList.drop 24 = dktX5_becomes_1 := dk_seg dksX5_becomes_0 24 rfl rfl
theorem dksX5_becomes_2 : cX5_becomes.data.toList.drop 46 = dktX5_becomes_2 := dk_seg dksX5_becomes_1 22 rfl rfl
theorem dksX5_becomes_3 : cX5_becomes.data.toList.drop 70 = dktX5_becomes_3 := dk_seg dksX5_becomes_2 24 rfl rfl
theorem dksX5_becomes_4 : cX5_becomes.data.toList.drop 93 = dktX5_becomes_4 := dk_seg dksX5_becomes_3 23 rfl rfl
theorem dX5_becomes_0 : decode cX5_becomes 0 = .ok (.aload_n 1, 1) := dk_43 (dk_at dksX5_becomes_0 0 rfl rfl)
theorem dX5_becomes_1 : decode cX5_becomes 1 = .ok (.getfield 15, 3) := dk_180 0 15 (dk_at dksX5_becomes_0 1 rfl rfl)
theorem dX5_becomes_4 : decode cX5_becomes 4 = .ok (.iconst 0, 1) := dk_3 (dk_at dksX5_becomes_0 4 rfl rfl)
theorem dX5_becomes_5 : decode cX5_becomes 5 = .ok (.aload_n 0, 1) := dk_42 (dk_at dksX5_becomes_0 5 rfl rfl)
theorem dX5_becomes_6 : decode cX5_becomes 6 = .ok (.getfield 15, 3) := dk_180 0 15 (dk_at dksX5_becomes_0 6 rfl rfl)
theorem dX5_becomes_9 : decode cX5_becomes 9 = .ok (.iconst 0, 1) := dk_3 (dk_at dksX5_becomes_0 9 rfl rfl)
theorem dX5_becomes_10 : decode cX5_becomes 10 = .ok (.bipush 7, 2) := dk_16 7 (dk_at dksX5_becomes_0 10 rfl rfl)
theorem dX5_becomes_12 : decode cX5_becomes 12 = .ok (.invokestatic 56, 3) := dk_184 0 56 (dk_at dksX5_becomes_0 12 rfl rfl)
theorem dX5_becomes_15 : decode cX5_becomes 15 = .ok (.aload_n 1, 1) := dk_43 (dk_at dksX5_becomes_0 15 rfl rfl)
theorem dX5_becomes_16 : decode cX5_becomes 16 = .ok (.getfield 19, 3) := dk_180 0 19 (dk_at dksX5_becomes_0 16 rfl rfl)
theorem dX5_becomes_19 : decode cX5_becomes 19 = .ok (.iconst 0, 1) := dk_3 (dk_at dksX5_becomes_0 19 rfl rfl)
theorem dX5_becomes_20 : decode cX5_becomes 20 = .ok (.aload_n 0, 1) := dk_42 (dk_at dksX5_becomes_0 20 rfl rfl)
theorem dX5_becomes_21 : decode cX5_becomes 21 = .ok (.getfield 19, 3) := dk_180 0 19 (dk_at dksX5_becomes_0 21 rfl rfl)
theorem dX5_becomes_24 : decode cX5_becomes 24 = .ok (.iconst 0, 1) := dk_3 (dk_at dksX5_becomes_1 0 rfl rfl)
theorem dX5_becomes_25 : decode cX5_becomes 25 = .ok (.bipush 7, 2) := dk_16 7 (dk_at dksX5_becomes_1 1 rfl rfl)
theorem dX5_becomes_27 : decode cX5_becomes 27 = .ok (.invokestatic 56, 3) := dk_184 0 56 (dk_at dksX5_becomes_1 3 rfl rfl)
theorem dX5_becomes_30 : decode cX5_becomes 30 = .ok (.aload_n 1, 1) := dk_43 (dk_at dksX5_becomes_1 6 rfl rfl)
theorem dX5_becomes_31 : decode cX5_becomes 31 = .ok (.getfield 22, 3) := dk_180 0 22 (dk_at dksX5_becomes_1 7 rfl rfl)
theorem dX5_becomes_34 : decode cX5_becomes 34 = .ok (.iconst 0, 1) := dk_3 (dk_at dksX5_becomes_1 10 rfl rfl)
theorem dX5_becomes_35 : decode cX5_becomes 35 = .ok (.aload_n 0, 1) := dk_42 (dk_at dksX5_becomes_1 11 rfl rfl)
theorem dX5_becomes_36 : decode cX5_becomes 36 = .ok (.getfield 22, 3) := dk_180 0 22 (dk_at dksX5_becomes_1 12 rfl rfl)
theorem dX5_becomes_39 : decode cX5_becomes 39 = .ok (.iconst 0, 1) := dk_3 (dk_at dksX5_becomes_1 15 rfl rfl)
theorem dX5_becomes_40 : decode cX5_becomes 40 = .ok (.bipush 7, 2) := dk_16 7 (dk_at dksX5_becomes_1 16 rfl rfl)
theorem dX5_becomes_42 : decode cX5_becomes 42 = .ok (.invokestatic 56, 3) := dk_184 0 56 (dk_at dksX5_becomes_1 18 rfl rfl)
theorem dX5_becomes_45 : decode cX5_becomes 45 = .ok (.aload_n 1, 1) := dk_43 (dk_at dksX5_becomes_1 21 rfl rfl)
theorem dX5_becomes_46 : decode cX5_becomes 46 = .ok (.getfield 25, 3) := dk_180 0 25 (dk_at dksX5_becomes_2 0 rfl rfl)
theorem dX5_becomes_49 : decode cX5_becomes 49 = .ok (.iconst 0, 1) := dk_3 (dk_at dksX5_becomes_2 3 rfl rfl)
theorem dX5_becomes_50 : decode cX5_becomes 50 = .ok (.aload_n 0, 1) := dk_42 (dk_at dksX5_becomes_2 4 rfl rfl)
theorem dX5_becomes_51 : decode cX5_becomes 51 = .ok (.getfield 25, 3) := dk_180 0 25 (dk_at dksX5_becomes_2 5 rfl rfl)
theorem dX5_becomes_54 : decode cX5_becomes 54 = .ok (.iconst 0, 1) := dk_3 (dk_at dksX5_becomes_2 8 rfl rfl)
theorem dX5_becomes_55 : decode cX5_becomes 55 = .ok (.bipush 7, 2) := dk_16 7 (dk_at dksX5_becomes_2 9 rfl rfl)
theorem dX5_becomes_57 : decode cX5_becomes 57 = .ok (.invokestatic 56, 3) := dk_184 0 56 (dk_at dksX5_becomes_2 11 rfl rfl)
theorem dX5_becomes_60 : decode cX5_becomes 60 = .ok (.aload_n 1, 1) := dk_43 (dk_at dksX5_becomes_2 14 rfl rfl)
theorem dX5_becomes_61 : decode cX5_becomes 61 = .ok (.getfield 28, 3) := dk_180 0 28 (dk_at dksX5_becomes_2 15 rfl rfl)
theorem dX5_becomes_64 : decode cX5_becomes 64 = .ok (.iconst 0, 1) := dk_3 (dk_at dksX5_becomes_2 18 rfl rfl)
theorem dX5_becomes_65 : decode cX5_becomes 65 = .ok (.aload_n 0, 1) := dk_42 (dk_at dksX5_becomes_2 19 rfl rfl)
theorem dX5_becomes_66 : decode cX5_becomes 66 = .ok (.getfield 28, 3) := dk_180 0 28 (dk_at dksX5_becomes_2 20 rfl rfl)
theorem dX5_becomes_69 : decode cX5_becomes 69 = .ok (.iconst 0, 1) := dk_3 (dk_at dksX5_becomes_2 23 rfl rfl)
theorem dX5_becomes_70 : decode cX5_becomes 70 = .ok (.bipush 20, 2) := dk_16 20 (dk_at dksX5_becomes_3 0 rfl rfl)
theorem dX5_becomes_72 : decode cX5_becomes 72 = .ok (.invokestatic 56, 3) := dk_184 0 56 (dk_at dksX5_becomes_3 2 rfl rfl)
theorem dX5_becomes_75 : decode cX5_becomes 75 = .ok (.aload_n 0, 1) := dk_42 (dk_at dksX5_becomes_3 5 rfl rfl)
theorem dX5_becomes_76 : decode cX5_becomes 76 = .ok (.aload_n 1, 1) := dk_43 (dk_at dksX5_becomes_3 6 rfl rfl)
theorem dX5_becomes_77 : decode cX5_becomes 77 = .ok (.getfield 47, 3) := dk_180 0 47 (dk_at dksX5_becomes_3 7 rfl rfl)
theorem dX5_becomes_80 : decode cX5_becomes 80 = .ok (.putfield 47, 3) := dk_181 0 47 (dk_at dksX5_becomes_3 10 rfl rfl)
theorem dX5_becomes_83 : decode cX5_becomes 83 = .ok (.aload_n 0, 1) := dk_42 (dk_at dksX5_becomes_3 13 rfl rfl)
theorem dX5_becomes_84 : decode cX5_becomes 84 = .ok (.aload_n 1, 1) := dk_43 (dk_at dksX5_becomes_3 14 rfl rfl)
theorem dX5_becomes_85 : decode cX5_becomes 85 = .ok (.getfield 50, 3) := dk_180 0 50 (dk_at dksX5_becomes_3 15 rfl rfl)
theorem dX5_becomes_88 : decode cX5_becomes 88 = .ok (.putfield 50, 3) := dk_181 0 50 (dk_at dksX5_becomes_3 18 rfl rfl)
theorem dX5_becomes_91 : decode cX5_becomes 91 = .ok (.aload_n 0, 1) := dk_42 (dk_at dksX5_becomes_3 21 rfl rfl)
theorem dX5_becomes_92 : decode cX5_becomes 92 = .ok (.aload_n 1, 1) := dk_43 (dk_at dksX5_becomes_3 22 rfl rfl)
theorem dX5_becomes_93 : decode cX5_becomes 93 = .ok (.getfield 53, 3) := dk_180 0 53 (dk_at dksX5_becomes_4 0 rfl rfl)
theorem dX5_becomes_96 : decode cX5_becomes 96 = .ok (.putfield 53, 3) := dk_181 0 53 (dk_at dksX5_becomes_4 3 rfl rfl)
theorem dX5_becomes_99 : decode cX5_becomes 99 = .ok (.aload_n 0, 1) := dk_42 (dk_at dksX5_becomes_4 6 rfl rfl)
theorem dX5_becomes_100 : decode cX5_becomes 100 = .ok (.areturn, 1) := dk_176 (dk_at dksX5_becomes_4 7 rfl rfl)
abbrev cX5_sungBy : ByteArray := prog_6_method_7_code
def yX5_sungBy : MethodName := ⟨RX5, "sungBy", "(I)I"⟩
def dkwX5_sungBy_1 : List UInt8 := [132, 2, 1, 167, 255, 231, 2, 172]
abbrev dktX5_sungBy_1 : List UInt8 := dkwX5_sungBy_1 ++ []
def dkwX5_sungBy_0 : List UInt8 := [3, 61, 28, 42, 180, 0, 3, 182, 0, 62, 162, 0, 20, 42, 27, 28, 182, 0, 93, 153, 0, 5, 28, 172]
abbrev dktX5_sungBy_0 : List UInt8 := dkwX5_sungBy_0 ++ dktX5_sungBy_1
theorem dksX5_sungBy_0 : cX5_sungBy.data.toList.drop 0 = dktX5_sungBy_0 := by decide +kernel
theorem dksX5_sungBy_1 : cX5_sungBy.data.toList.drop 24 = dktX5_sungBy_1 := dk_seg dksX5_sungBy_0 24 rfl rfl
theorem dX5_sungBy_0 : decode cX5_sungBy 0 = .ok (.iconst 0, 1) := dk_3 (dk_at dksX5_sungBy_0 0 rfl rfl)
theorem dX5_sungBy_1 : decode cX5_sungBy 1 = .ok (.istore_n 2, 1) := dk_61 (dk_at dksX5_sungBy_0 1 rfl rfl)
theorem dX5_sungBy_2 : decode cX5_sungBy 2 = .ok (.iload_n 2, 1) := dk_28 (dk_at dksX5_sungBy_0 2 rfl rfl)
theorem dX5_sungBy_3 : decode cX5_sungBy 3 = .ok (.aload_n 0, 1) := dk_42 (dk_at dksX5_sungBy_0 3 rfl rfl)
theorem dX5_sungBy_4 : decode cX5_sungBy 4 = .ok (.getfield 3, 3) := dk_180 0 3 (dk_at dksX5_sungBy_0 4 rfl rfl)
theorem dX5_sungBy_7 : decode cX5_sungBy 7 = .ok (.invokevirtual 62, 3) := dk_182 0 62 (dk_at dksX5_sungBy_0 7 rfl rfl)
theorem dX5_sungBy_10 : decode cX5_sungBy 10 = .ok (.if_icmp .ge 20, 3) := dk_162 0 20 (dk_at dksX5_sungBy_0 10 rfl rfl)
theorem dX5_sungBy_13 : decode cX5_sungBy 13 = .ok (.aload_n 0, 1) := dk_42 (dk_at dksX5_sungBy_0 13 rfl rfl)
theorem dX5_sungBy_14 : decode cX5_sungBy 14 = .ok (.iload_n 1, 1) := dk_27 (dk_at dksX5_sungBy_0 14 rfl rfl)
theorem dX5_sungBy_15 : decode cX5_sungBy 15 = .ok (.iload_n 2, 1) := dk_28 (dk_at dksX5_sungBy_0 15 rfl rfl)
theorem dX5_sungBy_16 : decode cX5_sungBy 16 = .ok (.invokevirtual 93, 3) := dk_182 0 93 (dk_at dksX5_sungBy_0 16 rfl rfl)
theorem dX5_sungBy_19 : decode cX5_sungBy 19 = .ok (.ifCond .eq 5, 3) := dk_153 0 5 (dk_at dksX5_sungBy_0 19 rfl rfl)
theorem dX5_sungBy_22 : decode cX5_sungBy 22 = .ok (.iload_n 2, 1) := dk_28 (dk_at dksX5_sungBy_0 22 rfl rfl)
theorem dX5_sungBy_23 : decode cX5_sungBy 23 = .ok (.ireturn, 1) := dk_172 (dk_at dksX5_sungBy_0 23 rfl rfl)
theorem dX5_sungBy_24 : decode cX5_sungBy 24 = .ok (.iinc 2 1, 3) := dk_132 2 1 (dk_at dksX5_sungBy_1 0 rfl rfl)
theorem dX5_sungBy_27 : decode cX5_sungBy 27 = .ok (.goto (-25), 3) := dk_167 255 231 (dk_at dksX5_sungBy_1 3 rfl rfl)
theorem dX5_sungBy_30 : decode cX5_sungBy 30 = .ok (.iconst (-1), 1) := dk_2 (dk_at dksX5_sungBy_1 6 rfl rfl)
theorem dX5_sungBy_31 : decode cX5_sungBy 31 = .ok (.ireturn, 1) := dk_172 (dk_at dksX5_sungBy_1 7 rfl rfl)
abbrev cX5_canSing : ByteArray := prog_6_method_6_code
def yX5_canSing : MethodName := ⟨RX5, "canSing", "(II)Z"⟩
def dkwX5_canSing_2 : List UInt8 := [167, 0, 4, 3, 172]
abbrev dktX5_canSing_2 : List UInt8 := dkwX5_canSing_2 ++ []
def dkwX5_canSing_1 : List UInt8 := [28, 184, 0, 85, 154, 0, 22, 42, 27, 28, 182, 0, 89, 42, 180, 0, 15, 28, 46, 163, 0, 7, 4]
abbrev dktX5_canSing_1 : List UInt8 := dkwX5_canSing_1 ++ dktX5_canSing_2
def dkwX5_canSing_0 : List UInt8 := [42, 180, 0, 3, 28, 182, 0, 65, 180, 0, 84, 42, 180, 0, 28, 27, 46, 160, 0, 33, 42, 180, 0, 47]
abbrev dktX5_canSing_0 : List UInt8 := dkwX5_canSing_0 ++ dktX5_canSing_1
theorem dksX5_canSing_0 : cX5_canSing.data.toList.drop 0 = dktX5_canSing_0 := by decide +kernel
theorem dksX5_canSing_1 : cX5_canSing.data.toList.drop 24 = dktX5_canSing_1 := dk_seg dksX5_canSing_0 24 rfl rfl
theorem dksX5_canSing_2 : cX5_canSing.data.toList.drop 47 = dktX5_canSing_2 := dk_seg dksX5_canSing_1 23 rfl rfl
theorem dX5_canSing_0 : decode cX5_canSing 0 = .ok (.aload_n 0, 1) := dk_42 (dk_at dksX5_canSing_0 0 rfl rfl)
theorem dX5_canSing_1 : decode cX5_canSing 1 = .ok (.getfield 3, 3) := dk_180 0 3 (dk_at dksX5_canSing_0 1 rfl rfl)
theorem dX5_canSing_4 : decode cX5_canSing 4 = .ok (.iload_n 2, 1) := dk_28 (dk_at dksX5_canSing_0 4 rfl rfl)
theorem dX5_canSing_5 : decode cX5_canSing 5 = .ok (.invokevirtual 65, 3) := dk_182 0 65 (dk_at dksX5_canSing_0 5 rfl rfl)
theorem dX5_canSing_8 : decode cX5_canSing 8 = .ok (.getfield 84, 3) := dk_180 0 84 (dk_at dksX5_canSing_0 8 rfl rfl)
theorem dX5_canSing_11 : decode cX5_canSing 11 = .ok (.aload_n 0, 1) := dk_42 (dk_at dksX5_canSing_0 11 rfl rfl)
theorem dX5_canSing_12 : decode cX5_canSing 12 = .ok (.getfield 28, 3) := dk_180 0 28 (dk_at dksX5_canSing_0 12 rfl rfl)
theorem dX5_canSing_15 : decode cX5_canSing 15 = .ok (.iload_n 1, 1) := dk_27 (dk_at dksX5_canSing_0 15 rfl rfl)
theorem dX5_canSing_16 : decode cX5_canSing 16 = .ok (.iaload, 1) := dk_46 (dk_at dksX5_canSing_0 16 rfl rfl)
theorem dX5_canSing_17 : decode cX5_canSing 17 = .ok (.if_icmp .ne 33, 3) := dk_160 0 33 (dk_at dksX5_canSing_0 17 rfl rfl)
theorem dX5_canSing_20 : decode cX5_canSing 20 = .ok (.aload_n 0, 1) := dk_42 (dk_at dksX5_canSing_0 20 rfl rfl)
theorem dX5_canSing_21 : decode cX5_canSing 21 = .ok (.getfield 47, 3) := dk_180 0 47 (dk_at dksX5_canSing_0 21 rfl rfl)
theorem dX5_canSing_24 : decode cX5_canSing 24 = .ok (.iload_n 2, 1) := dk_28 (dk_at dksX5_canSing_1 0 rfl rfl)
theorem dX5_canSing_25 : decode cX5_canSing 25 = .ok (.invokestatic 85, 3) := dk_184 0 85 (dk_at dksX5_canSing_1 1 rfl rfl)
theorem dX5_canSing_28 : decode cX5_canSing 28 = .ok (.ifCond .ne 22, 3) := dk_154 0 22 (dk_at dksX5_canSing_1 4 rfl rfl)
theorem dX5_canSing_31 : decode cX5_canSing 31 = .ok (.aload_n 0, 1) := dk_42 (dk_at dksX5_canSing_1 7 rfl rfl)
theorem dX5_canSing_32 : decode cX5_canSing 32 = .ok (.iload_n 1, 1) := dk_27 (dk_at dksX5_canSing_1 8 rfl rfl)
theorem dX5_canSing_33 : decode cX5_canSing 33 = .ok (.iload_n 2, 1) := dk_28 (dk_at dksX5_canSing_1 9 rfl rfl)
theorem dX5_canSing_34 : decode cX5_canSing 34 = .ok (.invokevirtual 89, 3) := dk_182 0 89 (dk_at dksX5_canSing_1 10 rfl rfl)
theorem dX5_canSing_37 : decode cX5_canSing 37 = .ok (.aload_n 0, 1) := dk_42 (dk_at dksX5_canSing_1 13 rfl rfl)
theorem dX5_canSing_38 : decode cX5_canSing 38 = .ok (.getfield 15, 3) := dk_180 0 15 (dk_at dksX5_canSing_1 14 rfl rfl)
theorem dX5_canSing_41 : decode cX5_canSing 41 = .ok (.iload_n 2, 1) := dk_28 (dk_at dksX5_canSing_1 17 rfl rfl)
theorem dX5_canSing_42 : decode cX5_canSing 42 = .ok (.iaload, 1) := dk_46 (dk_at dksX5_canSing_1 18 rfl rfl)
theorem dX5_canSing_43 : decode cX5_canSing 43 = .ok (.if_icmp .gt 7, 3) := dk_163 0 7 (dk_at dksX5_canSing_1 19 rfl rfl)
theorem dX5_canSing_46 : decode cX5_canSing 46 = .ok (.iconst 1, 1) := dk_4 (dk_at dksX5_canSing_1 22 rfl rfl)
theorem dX5_canSing_47 : decode cX5_canSing 47 = .ok (.goto 4, 3) := dk_167 0 4 (dk_at dksX5_canSing_2 0 rfl rfl)
theorem dX5_canSing_50 : decode cX5_canSing 50 = .ok (.iconst 0, 1) := dk_3 (dk_at dksX5_canSing_2 3 rfl rfl)
theorem dX5_canSing_51 : decode cX5_canSing 51 = .ok (.ireturn, 1) := dk_172 (dk_at dksX5_canSing_2 4 rfl rfl)
abbrev cX5_takes : ByteArray := prog_6_method_5_code
def yX5_takes : MethodName := ⟨RX5, "takes", "(II)I"⟩
def dkwX5_takes_2 : List UInt8 := [180, 0, 53, 28, 182, 0, 80, 172]
abbrev dktX5_takes_2 : List UInt8 := dkwX5_takes_2 ++ []
def dkwX5_takes_1 : List UInt8 := [180, 0, 77, 42, 180, 0, 15, 28, 46, 42, 180, 0, 19, 28, 46, 27, 42, 180, 0, 28, 27, 46, 42]
abbrev dktX5_takes_1 : List UInt8 := dkwX5_takes_1 ++ dktX5_takes_2
def dkwX5_takes_0 : List UInt8 := [42, 180, 0, 3, 42, 180, 0, 3, 27, 182, 0, 35, 180, 0, 74, 42, 180, 0, 3, 28, 182, 0, 65]
abbrev dktX5_takes_0 : List UInt8 := dkwX5_takes_0 ++ dktX5_takes_1
theorem dksX5_takes_0 : cX5_takes.data.toList.drop 0 = dktX5_takes_0 := by decide +kernel
theorem dksX5_takes_1 : cX5_takes.data.toList.drop 23 = dktX5_takes_1 := dk_seg dksX5_takes_0 23 rfl rfl
theorem dksX5_takes_2 : cX5_takes.data.toList.drop 46 = dktX5_takes_2 := dk_seg dksX5_takes_1 23 rfl rfl
theorem dX5_takes_0 : decode cX5_takes 0 = .ok (.aload_n 0, 1) := dk_42 (dk_at dksX5_takes_0 0 rfl rfl)
theorem dX5_takes_1 : decode cX5_takes 1 = .ok (.getfield 3, 3) := dk_180 0 3 (dk_at dksX5_takes_0 1 rfl rfl)
theorem dX5_takes_4 : decode cX5_takes 4 = .ok (.aload_n 0, 1) := dk_42 (dk_at dksX5_takes_0 4 rfl rfl)
theorem dX5_takes_5 : decode cX5_takes 5 = .ok (.getfield 3, 3) := dk_180 0 3 (dk_at dksX5_takes_0 5 rfl rfl)
theorem dX5_takes_8 : decode cX5_takes 8 = .ok (.iload_n 1, 1) := dk_27 (dk_at dksX5_takes_0 8 rfl rfl)
theorem dX5_takes_9 : decode cX5_takes 9 = .ok (.invokevirtual 35, 3) := dk_182 0 35 (dk_at dksX5_takes_0 9 rfl rfl)
theorem dX5_takes_12 : decode cX5_takes 12 = .ok (.getfield 74, 3) := dk_180 0 74 (dk_at dksX5_takes_0 12 rfl rfl)
theorem dX5_takes_15 : decode cX5_takes 15 = .ok (.aload_n 0, 1) := dk_42 (dk_at dksX5_takes_0 15 rfl rfl)
theorem dX5_takes_16 : decode cX5_takes 16 = .ok (.getfield 3, 3) := dk_180 0 3 (dk_at dksX5_takes_0 16 rfl rfl)
theorem dX5_takes_19 : decode cX5_takes 19 = .ok (.iload_n 2, 1) := dk_28 (dk_at dksX5_takes_0 19 rfl rfl)
theorem dX5_takes_20 : decode cX5_takes 20 = .ok (.invokevirtual 65, 3) := dk_182 0 65 (dk_at dksX5_takes_0 20 rfl rfl)
theorem dX5_takes_23 : decode cX5_takes 23 = .ok (.getfield 77, 3) := dk_180 0 77 (dk_at dksX5_takes_1 0 rfl rfl)
theorem dX5_takes_26 : decode cX5_takes 26 = .ok (.aload_n 0, 1) := dk_42 (dk_at dksX5_takes_1 3 rfl rfl)
theorem dX5_takes_27 : decode cX5_takes 27 = .ok (.getfield 15, 3) := dk_180 0 15 (dk_at dksX5_takes_1 4 rfl rfl)
theorem dX5_takes_30 : decode cX5_takes 30 = .ok (.iload_n 2, 1) := dk_28 (dk_at dksX5_takes_1 7 rfl rfl)
theorem dX5_takes_31 : decode cX5_takes 31 = .ok (.iaload, 1) := dk_46 (dk_at dksX5_takes_1 8 rfl rfl)
theorem dX5_takes_32 : decode cX5_takes 32 = .ok (.aload_n 0, 1) := dk_42 (dk_at dksX5_takes_1 9 rfl rfl)
theorem dX5_takes_33 : decode cX5_takes 33 = .ok (.getfield 19, 3) := dk_180 0 19 (dk_at dksX5_takes_1 10 rfl rfl)
theorem dX5_takes_36 : decode cX5_takes 36 = .ok (.iload_n 2, 1) := dk_28 (dk_at dksX5_takes_1 13 rfl rfl)
theorem dX5_takes_37 : decode cX5_takes 37 = .ok (.iaload, 1) := dk_46 (dk_at dksX5_takes_1 14 rfl rfl)
theorem dX5_takes_38 : decode cX5_takes 38 = .ok (.iload_n 1, 1) := dk_27 (dk_at dksX5_takes_1 15 rfl rfl)
theorem dX5_takes_39 : decode cX5_takes 39 = .ok (.aload_n 0, 1) := dk_42 (dk_at dksX5_takes_1 16 rfl rfl)
theorem dX5_takes_40 : decode cX5_takes 40 = .ok (.getfield 28, 3) := dk_180 0 28 (dk_at dksX5_takes_1 17 rfl rfl)
theorem dX5_takes_43 : decode cX5_takes 43 = .ok (.iload_n 1, 1) := dk_27 (dk_at dksX5_takes_1 20 rfl rfl)
theorem dX5_takes_44 : decode cX5_takes 44 = .ok (.iaload, 1) := dk_46 (dk_at dksX5_takes_1 21 rfl rfl)
theorem dX5_takes_45 : decode cX5_takes 45 = .ok (.aload_n 0, 1) := dk_42 (dk_at dksX5_takes_1 22 rfl rfl)
theorem dX5_takes_46 : decode cX5_takes 46 = .ok (.getfield 53, 3) := dk_180 0 53 (dk_at dksX5_takes_2 0 rfl rfl)
theorem dX5_takes_49 : decode cX5_takes 49 = .ok (.iload_n 2, 1) := dk_28 (dk_at dksX5_takes_2 3 rfl rfl)
theorem dX5_takes_50 : decode cX5_takes 50 = .ok (.invokevirtual 80, 3) := dk_182 0 80 (dk_at dksX5_takes_2 4 rfl rfl)
theorem dX5_takes_53 : decode cX5_takes 53 = .ok (.ireturn, 1) := dk_172 (dk_at dksX5_takes_2 7 rfl rfl)
abbrev cX5_hymn : ByteArray := prog_6_method_12_code
def yX5_hymn : MethodName := ⟨RX5, "hymn", "()I"⟩
def dkwX5_hymn_2 : List UInt8 := [27, 172]
abbrev dktX5_hymn_2 : List UInt8 := dkwX5_hymn_2 ++ []
def dkwX5_hymn_1 : List UInt8 := [4, 28, 120, 128, 60, 167, 0, 13, 42, 89, 180, 0, 50, 4, 96, 181, 0, 50, 132, 2, 1, 167, 255, 215]
abbrev dktX5_hymn_1 : List UInt8 := dkwX5_hymn_1 ++ dktX5_hymn_2
def dkwX5_hymn_0 : List UInt8 := [3, 60, 3, 61, 28, 42, 180, 0, 3, 182, 0, 31, 162, 0, 36, 42, 28, 182, 0, 100, 153, 0, 12, 27]
abbrev dktX5_hymn_0 : List UInt8 := dkwX5_hymn_0 ++ dktX5_hymn_1
theorem dksX5_hymn_0 : cX5_hymn.data.toList.drop 0 = dktX5_hymn_0 := by decide +kernel
theorem dksX5_hymn_1 : cX5_hymn.data.toList.drop 24 = dktX5_hymn_1 := dk_seg dksX5_hymn_0 24 rfl rfl
theorem dksX5_hymn_2 : cX5_hymn.data.toList.drop 48 = dktX5_hymn_2 := dk_seg dksX5_hymn_1 24 rfl rfl
theorem dX5_hymn_0 : decode cX5_hymn 0 = .ok (.iconst 0, 1) := dk_3 (dk_at dksX5_hymn_0 0 rfl rfl)
theorem dX5_hymn_1 : decode cX5_hymn 1 = .ok (.istore_n 1, 1) := dk_60 (dk_at dksX5_hymn_0 1 rfl rfl)
theorem dX5_hymn_2 : decode cX5_hymn 2 = .ok (.iconst 0, 1) := dk_3 (dk_at dksX5_hymn_0 2 rfl rfl)
theorem dX5_hymn_3 : decode cX5_hymn 3 = .ok (.istore_n 2, 1) := dk_61 (dk_at dksX5_hymn_0 3 rfl rfl)
theorem dX5_hymn_4 : decode cX5_hymn 4 = .ok (.iload_n 2, 1) := dk_28 (dk_at dksX5_hymn_0 4 rfl rfl)
theorem dX5_hymn_5 : decode cX5_hymn 5 = .ok (.aload_n 0, 1) := dk_42 (dk_at dksX5_hymn_0 5 rfl rfl)
theorem dX5_hymn_6 : decode cX5_hymn 6 = .ok (.getfield 3, 3) := dk_180 0 3 (dk_at dksX5_hymn_0 6 rfl rfl)
theorem dX5_hymn_9 : decode cX5_hymn 9 = .ok (.invokevirtual 31, 3) := dk_182 0 31 (dk_at dksX5_hymn_0 9 rfl rfl)
theorem dX5_hymn_12 : decode cX5_hymn 12 = .ok (.if_icmp .ge 36, 3) := dk_162 0 36 (dk_at dksX5_hymn_0 12 rfl rfl)
theorem dX5_hymn_15 : decode cX5_hymn 15 = .ok (.aload_n 0, 1) := dk_42 (dk_at dksX5_hymn_0 15 rfl rfl)
theorem dX5_hymn_16 : decode cX5_hymn 16 = .ok (.iload_n 2, 1) := dk_28 (dk_at dksX5_hymn_0 16 rfl rfl)
theorem dX5_hymn_17 : decode cX5_hymn 17 = .ok (.invokevirtual 100, 3) := dk_182 0 100 (dk_at dksX5_hymn_0 17 rfl rfl)
theorem dX5_hymn_20 : decode cX5_hymn 20 = .ok (.ifCond .eq 12, 3) := dk_153 0 12 (dk_at dksX5_hymn_0 20 rfl rfl)
theorem dX5_hymn_23 : decode cX5_hymn 23 = .ok (.iload_n 1, 1) := dk_27 (dk_at dksX5_hymn_0 23 rfl rfl)
theorem dX5_hymn_24 : decode cX5_hymn 24 = .ok (.iconst 1, 1) := dk_4 (dk_at dksX5_hymn_1 0 rfl rfl)
theorem dX5_hymn_25 : decode cX5_hymn 25 = .ok (.iload_n 2, 1) := dk_28 (dk_at dksX5_hymn_1 1 rfl rfl)
theorem dX5_hymn_26 : decode cX5_hymn 26 = .ok (.ishl, 1) := dk_120 (dk_at dksX5_hymn_1 2 rfl rfl)
theorem dX5_hymn_27 : decode cX5_hymn 27 = .ok (.ior, 1) := dk_128 (dk_at dksX5_hymn_1 3 rfl rfl)
theorem dX5_hymn_28 : decode cX5_hymn 28 = .ok (.istore_n 1, 1) := dk_60 (dk_at dksX5_hymn_1 4 rfl rfl)
theorem dX5_hymn_29 : decode cX5_hymn 29 = .ok (.goto 13, 3) := dk_167 0 13 (dk_at dksX5_hymn_1 5 rfl rfl)
theorem dX5_hymn_32 : decode cX5_hymn 32 = .ok (.aload_n 0, 1) := dk_42 (dk_at dksX5_hymn_1 8 rfl rfl)
theorem dX5_hymn_33 : decode cX5_hymn 33 = .ok (.dup, 1) := dk_89 (dk_at dksX5_hymn_1 9 rfl rfl)
theorem dX5_hymn_34 : decode cX5_hymn 34 = .ok (.getfield 50, 3) := dk_180 0 50 (dk_at dksX5_hymn_1 10 rfl rfl)
theorem dX5_hymn_37 : decode cX5_hymn 37 = .ok (.iconst 1, 1) := dk_4 (dk_at dksX5_hymn_1 13 rfl rfl)
theorem dX5_hymn_38 : decode cX5_hymn 38 = .ok (.iadd, 1) := dk_96 (dk_at dksX5_hymn_1 14 rfl rfl)
theorem dX5_hymn_39 : decode cX5_hymn 39 = .ok (.putfield 50, 3) := dk_181 0 50 (dk_at dksX5_hymn_1 15 rfl rfl)
theorem dX5_hymn_42 : decode cX5_hymn 42 = .ok (.iinc 2 1, 3) := dk_132 2 1 (dk_at dksX5_hymn_1 18 rfl rfl)
theorem dX5_hymn_45 : decode cX5_hymn 45 = .ok (.goto (-41), 3) := dk_167 255 215 (dk_at dksX5_hymn_1 21 rfl rfl)
theorem dX5_hymn_48 : decode cX5_hymn 48 = .ok (.iload_n 1, 1) := dk_27 (dk_at dksX5_hymn_2 0 rfl rfl)
theorem dX5_hymn_49 : decode cX5_hymn 49 = .ok (.ireturn, 1) := dk_172 (dk_at dksX5_hymn_2 1 rfl rfl)
abbrev cX5_sings : ByteArray := prog_6_method_11_code
def yX5_sings : MethodName := ⟨RX5, "sings", "(I)Z"⟩
def dkwX5_sings_2 : List UInt8 := [79, 4, 172]
abbrev dktX5_sings_2 : List UInt8 := dkwX5_sings_2 ++ []
def dkwX5_sings_1 : List UInt8 := [182, 0, 89, 100, 79, 42, 180, 0, 19, 28, 92, 46, 4, 96, 79, 42, 180, 0, 22, 28, 92, 46, 4, 96]
abbrev dktX5_sings_1 : List UInt8 := dkwX5_sings_1 ++ dktX5_sings_2
def dkwX5_sings_0 : List UInt8 := [42, 27, 182, 0, 96, 61, 28, 2, 160, 0, 5, 3, 172, 42, 180, 0, 15, 28, 92, 46, 42, 27, 28]
abbrev dktX5_sings_0 : List UInt8 := dkwX5_sings_0 ++ dktX5_sings_1
theorem dksX5_sings_0 : cX5_sings.data.toList.drop 0 = dktX5_sings_0 := by decide +kernel
theorem dksX5_sings_1 : cX5_sings.data.toList.drop 23 = dktX5_sings_1 := dk_seg dksX5_sings_0 23 rfl rfl
theorem dksX5_sings_2 : cX5_sings.data.toList.drop 47 = dktX5_sings_2 := dk_seg dksX5_sings_1 24 rfl rfl
theorem dX5_sings_0 : decode cX5_sings 0 = .ok (.aload_n 0, 1) := dk_42 (dk_at dksX5_sings_0 0 rfl rfl)
theorem dX5_sings_1 : decode cX5_sings 1 = .ok (.iload_n 1, 1) := dk_27 (dk_at dksX5_sings_0 1 rfl rfl)
theorem dX5_sings_2 : decode cX5_sings 2 = .ok (.invokevirtual 96, 3) := dk_182 0 96 (dk_at dksX5_sings_0 2 rfl rfl)
theorem dX5_sings_5 : decode cX5_sings 5 = .ok (.istore_n 2, 1) := dk_61 (dk_at dksX5_sings_0 5 rfl rfl)
theorem dX5_sings_6 : decode cX5_sings 6 = .ok (.iload_n 2, 1) := dk_28 (dk_at dksX5_sings_0 6 rfl rfl)
theorem dX5_sings_7 : decode cX5_sings 7 = .ok (.iconst (-1), 1) := dk_2 (dk_at dksX5_sings_0 7 rfl rfl)
theorem dX5_sings_8 : decode cX5_sings 8 = .ok (.if_icmp .ne 5, 3) := dk_160 0 5 (dk_at dksX5_sings_0 8 rfl rfl)
theorem dX5_sings_11 : decode cX5_sings 11 = .ok (.iconst 0, 1) := dk_3 (dk_at dksX5_sings_0 11 rfl rfl)
theorem dX5_sings_12 : decode cX5_sings 12 = .ok (.ireturn, 1) := dk_172 (dk_at dksX5_sings_0 12 rfl rfl)
theorem dX5_sings_13 : decode cX5_sings 13 = .ok (.aload_n 0, 1) := dk_42 (dk_at dksX5_sings_0 13 rfl rfl)
theorem dX5_sings_14 : decode cX5_sings 14 = .ok (.getfield 15, 3) := dk_180 0 15 (dk_at dksX5_sings_0 14 rfl rfl)
theorem dX5_sings_17 : decode cX5_sings 17 = .ok (.iload_n 2, 1) := dk_28 (dk_at dksX5_sings_0 17 rfl rfl)
theorem dX5_sings_18 : decode cX5_sings 18 = .ok (.dup2, 1) := dk_92 (dk_at dksX5_sings_0 18 rfl rfl)
theorem dX5_sings_19 : decode cX5_sings 19 = .ok (.iaload, 1) := dk_46 (dk_at dksX5_sings_0 19 rfl rfl)
theorem dX5_sings_20 : decode cX5_sings 20 = .ok (.aload_n 0, 1) := dk_42 (dk_at dksX5_sings_0 20 rfl rfl)
theorem dX5_sings_21 : decode cX5_sings 21 = .ok (.iload_n 1, 1) := dk_27 (dk_at dksX5_sings_0 21 rfl rfl)
theorem dX5_sings_22 : decode cX5_sings 22 = .ok (.iload_n 2, 1) := dk_28 (dk_at dksX5_sings_0 22 rfl rfl)
theorem dX5_sings_23 : decode cX5_sings 23 = .ok (.invokevirtual 89, 3) := dk_182 0 89 (dk_at dksX5_sings_1 0 rfl rfl)
theorem dX5_sings_26 : decode cX5_sings 26 = .ok (.isub, 1) := dk_100 (dk_at dksX5_sings_1 3 rfl rfl)
theorem dX5_sings_27 : decode cX5_sings 27 = .ok (.iastore, 1) := dk_79 (dk_at dksX5_sings_1 4 rfl rfl)
theorem dX5_sings_28 : decode cX5_sings 28 = .ok (.aload_n 0, 1) := dk_42 (dk_at dksX5_sings_1 5 rfl rfl)
theorem dX5_sings_29 : decode cX5_sings 29 = .ok (.getfield 19, 3) := dk_180 0 19 (dk_at dksX5_sings_1 6 rfl rfl)
theorem dX5_sings_32 : decode cX5_sings 32 = .ok (.iload_n 2, 1) := dk_28 (dk_at dksX5_sings_1 9 rfl rfl)
theorem dX5_sings_33 : decode cX5_sings 33 = .ok (.dup2, 1) := dk_92 (dk_at dksX5_sings_1 10 rfl rfl)
theorem dX5_sings_34 : decode cX5_sings 34 = .ok (.iaload, 1) := dk_46 (dk_at dksX5_sings_1 11 rfl rfl)
theorem dX5_sings_35 : decode cX5_sings 35 = .ok (.iconst 1, 1) := dk_4 (dk_at dksX5_sings_1 12 rfl rfl)
theorem dX5_sings_36 : decode cX5_sings 36 = .ok (.iadd, 1) := dk_96 (dk_at dksX5_sings_1 13 rfl rfl)
theorem dX5_sings_37 : decode cX5_sings 37 = .ok (.iastore, 1) := dk_79 (dk_at dksX5_sings_1 14 rfl rfl)
theorem dX5_sings_38 : decode cX5_sings 38 = .ok (.aload_n 0, 1) := dk_42 (dk_at dksX5_sings_1 15 rfl rfl)
theorem dX5_sings_39 : decode cX5_sings 39 = .ok (.getfield 22, 3) := dk_180 0 22 (dk_at dksX5_sings_1 16 rfl rfl)
theorem dX5_sings_42 : decode cX5_sings 42 = .ok (.iload_n 2, 1) := dk_28 (dk_at dksX5_sings_1 19 rfl rfl)
theorem dX5_sings_43 : decode cX5_sings 43 = .ok (.dup2, 1) := dk_92 (dk_at dksX5_sings_1 20 rfl rfl)
theorem dX5_sings_44 : decode cX5_sings 44 = .ok (.iaload, 1) := dk_46 (dk_at dksX5_sings_1 21 rfl rfl)
theorem dX5_sings_45 : decode cX5_sings 45 = .ok (.iconst 1, 1) := dk_4 (dk_at dksX5_sings_1 22 rfl rfl)
theorem dX5_sings_46 : decode cX5_sings 46 = .ok (.iadd, 1) := dk_96 (dk_at dksX5_sings_1 23 rfl rfl)
theorem dX5_sings_47 : decode cX5_sings 47 = .ok (.iastore, 1) := dk_79 (dk_at dksX5_sings_2 0 rfl rfl)
theorem dX5_sings_48 : decode cX5_sings 48 = .ok (.iconst 1, 1) := dk_4 (dk_at dksX5_sings_2 1 rfl rfl)
theorem dX5_sings_49 : decode cX5_sings 49 = .ok (.ireturn, 1) := dk_172 (dk_at dksX5_sings_2 2 rfl rfl)
abbrev cX5_day : ByteArray := prog_6_method_16_code
def yX5_day : MethodName := ⟨RX5, "day", "()Z"⟩
def dkwX5_day_0 : List UInt8 := [42, 180, 0, 53, 17, 1, 144, 160, 0, 5, 3, 172, 42, 182, 0, 121, 4, 172]
abbrev dktX5_day_0 : List UInt8 := dkwX5_day_0 ++ []
theorem dksX5_day_0 : cX5_day.data.toList.drop 0 = dktX5_day_0 := by decide +kernel
theorem dX5_day_0 : decode cX5_day 0 = .ok (.aload_n 0, 1) := dk_42 (dk_at dksX5_day_0 0 rfl rfl)
theorem dX5_day_1 : decode cX5_day 1 = .ok (.getfield 53, 3) := dk_180 0 53 (dk_at dksX5_day_0 1 rfl rfl)
theorem dX5_day_4 : decode cX5_day 4 = .ok (.sipush 400, 3) := dk_17 1 144 (dk_at dksX5_day_0 4 rfl rfl)
theorem dX5_day_7 : decode cX5_day 7 = .ok (.if_icmp .ne 5, 3) := dk_160 0 5 (dk_at dksX5_day_0 7 rfl rfl)
theorem dX5_day_10 : decode cX5_day 10 = .ok (.iconst 0, 1) := dk_3 (dk_at dksX5_day_0 10 rfl rfl)
theorem dX5_day_11 : decode cX5_day 11 = .ok (.ireturn, 1) := dk_172 (dk_at dksX5_day_0 11 rfl rfl)
theorem dX5_day_12 : decode cX5_day 12 = .ok (.aload_n 0, 1) := dk_42 (dk_at dksX5_day_0 12 rfl rfl)
theorem dX5_day_13 : decode cX5_day 13 = .ok (.invokevirtual 121, 3) := dk_182 0 121 (dk_at dksX5_day_0 13 rfl rfl)
theorem dX5_day_16 : decode cX5_day 16 = .ok (.iconst 1, 1) := dk_4 (dk_at dksX5_day_0 16 rfl rfl)
theorem dX5_day_17 : decode cX5_day 17 = .ok (.ireturn, 1) := dk_172 (dk_at dksX5_day_0 17 rfl rfl)
abbrev cX5_passes : ByteArray := prog_6_method_17_code
def yX5_passes : MethodName := ⟨RX5, "passes", "()V"⟩
def dkwX5_passes_3 : List UInt8 := [42, 89, 180, 0, 53, 4, 96, 181, 0, 53, 177]
abbrev dktX5_passes_3 : List UInt8 := dkwX5_passes_3 ++ []
def dkwX5_passes_2 : List UInt8 := [182, 0, 65, 180, 0, 77, 96, 184, 0, 113, 79, 42, 180, 0, 22, 27, 3, 79, 132, 1, 1, 167, 255, 196]
abbrev dktX5_passes_2 : List UInt8 := dkwX5_passes_2 ++ dktX5_passes_3
def dkwX5_passes_1 : List UInt8 := [158, 0, 33, 42, 180, 0, 25, 27, 17, 39, 15, 42, 180, 0, 25, 27, 46, 42, 180, 0, 3, 27]
abbrev dktX5_passes_1 : List UInt8 := dkwX5_passes_1 ++ dktX5_passes_2
def dkwX5_passes_0 : List UInt8 := [42, 182, 0, 44, 3, 60, 27, 42, 180, 0, 3, 182, 0, 62, 162, 0, 55, 42, 180, 0, 22, 27, 46]
abbrev dktX5_passes_0 : List UInt8 := dkwX5_passes_0 ++ dktX5_passes_1
theorem dksX5_passes_0 : cX5_passes.data.toList.drop 0 = dktX5_passes_0 := by decide +kernel
theorem dksX5_passes_1 : cX5_passes.data.toList.drop 23 = dktX5_passes_1 := dk_seg dksX5_passes_0 23 rfl rfl
theorem dksX5_passes_2 : cX5_passes.data.toList.drop 45 = dktX5_passes_2 := dk_seg dksX5_passes_1 22 rfl rfl
theorem dksX5_passes_3 : cX5_passes.data.toList.drop 69 = dktX5_passes_3 := dk_seg dksX5_passes_2 24 rfl rfl
theorem dX5_passes_0 : decode cX5_passes 0 = .ok (.aload_n 0, 1) := dk_42 (dk_at dksX5_passes_0 0 rfl rfl)
theorem dX5_passes_1 : decode cX5_passes 1 = .ok (.invokevirtual 44, 3) := dk_182 0 44 (dk_at dksX5_passes_0 1 rfl rfl)
theorem dX5_passes_4 : decode cX5_passes 4 = .ok (.iconst 0, 1) := dk_3 (dk_at dksX5_passes_0 4 rfl rfl)
theorem dX5_passes_5 : decode cX5_passes 5 = .ok (.istore_n 1, 1) := dk_60 (dk_at dksX5_passes_0 5 rfl rfl)
theorem dX5_passes_6 : decode cX5_passes 6 = .ok (.iload_n 1, 1) := dk_27 (dk_at dksX5_passes_0 6 rfl rfl)
theorem dX5_passes_7 : decode cX5_passes 7 = .ok (.aload_n 0, 1) := dk_42 (dk_at dksX5_passes_0 7 rfl rfl)
theorem dX5_passes_8 : decode cX5_passes 8 = .ok (.getfield 3, 3) := dk_180 0 3 (dk_at dksX5_passes_0 8 rfl rfl)
theorem dX5_passes_11 : decode cX5_passes 11 = .ok (.invokevirtual 62, 3) := dk_182 0 62 (dk_at dksX5_passes_0 11 rfl rfl)
theorem dX5_passes_14 : decode cX5_passes 14 = .ok (.if_icmp .ge 55, 3) := dk_162 0 55 (dk_at dksX5_passes_0 14 rfl rfl)
theorem dX5_passes_17 : decode cX5_passes 17 = .ok (.aload_n 0, 1) := dk_42 (dk_at dksX5_passes_0 17 rfl rfl)
theorem dX5_passes_18 : decode cX5_passes 18 = .ok (.getfield 22, 3) := dk_180 0 22 (dk_at dksX5_passes_0 18 rfl rfl)
theorem dX5_passes_21 : decode cX5_passes 21 = .ok (.iload_n 1, 1) := dk_27 (dk_at dksX5_passes_0 21 rfl rfl)
theorem dX5_passes_22 : decode cX5_passes 22 = .ok (.iaload, 1) := dk_46 (dk_at dksX5_passes_0 22 rfl rfl)
theorem dX5_passes_23 : decode cX5_passes 23 = .ok (.ifCond .le 33, 3) := dk_158 0 33 (dk_at dksX5_passes_1 0 rfl rfl)
theorem dX5_passes_26 : decode cX5_passes 26 = .ok (.aload_n 0, 1) := dk_42 (dk_at dksX5_passes_1 3 rfl rfl)
theorem dX5_passes_27 : decode cX5_passes 27 = .ok (.getfield 25, 3) := dk_180 0 25 (dk_at dksX5_passes_1 4 rfl rfl)
theorem dX5_passes_30 : decode cX5_passes 30 = .ok (.iload_n 1, 1) := dk_27 (dk_at dksX5_passes_1 7 rfl rfl)
theorem dX5_passes_31 : decode cX5_passes 31 = .ok (.sipush 9999, 3) := dk_17 39 15 (dk_at dksX5_passes_1 8 rfl rfl)
theorem dX5_passes_34 : decode cX5_passes 34 = .ok (.aload_n 0, 1) := dk_42 (dk_at dksX5_passes_1 11 rfl rfl)
theorem dX5_passes_35 : decode cX5_passes 35 = .ok (.getfield 25, 3) := dk_180 0 25 (dk_at dksX5_passes_1 12 rfl rfl)
theorem dX5_passes_38 : decode cX5_passes 38 = .ok (.iload_n 1, 1) := dk_27 (dk_at dksX5_passes_1 15 rfl rfl)
theorem dX5_passes_39 : decode cX5_passes 39 = .ok (.iaload, 1) := dk_46 (dk_at dksX5_passes_1 16 rfl rfl)
theorem dX5_passes_40 : decode cX5_passes 40 = .ok (.aload_n 0, 1) := dk_42 (dk_at dksX5_passes_1 17 rfl rfl)
theorem dX5_passes_41 : decode cX5_passes 41 = .ok (.getfield 3, 3) := dk_180 0 3 (dk_at dksX5_passes_1 18 rfl rfl)
theorem dX5_passes_44 : decode cX5_passes 44 = .ok (.iload_n 1, 1) := dk_27 (dk_at dksX5_passes_1 21 rfl rfl)
theorem dX5_passes_45 : decode cX5_passes 45 = .ok (.invokevirtual 65, 3) := dk_182 0 65 (dk_at dksX5_passes_2 0 rfl rfl)
theorem dX5_passes_48 : decode cX5_passes 48 = .ok (.getfield 77, 3) := dk_180 0 77 (dk_at dksX5_passes_2 3 rfl rfl)
theorem dX5_passes_51 : decode cX5_passes 51 = .ok (.iadd, 1) := dk_96 (dk_at dksX5_passes_2 6 rfl rfl)
theorem dX5_passes_52 : decode cX5_passes 52 = .ok (.invokestatic 113, 3) := dk_184 0 113 (dk_at dksX5_passes_2 7 rfl rfl)
theorem dX5_passes_55 : decode cX5_passes 55 = .ok (.iastore, 1) := dk_79 (dk_at dksX5_passes_2 10 rfl rfl)
theorem dX5_passes_56 : decode cX5_passes 56 = .ok (.aload_n 0, 1) := dk_42 (dk_at dksX5_passes_2 11 rfl rfl)
theorem dX5_passes_57 : decode cX5_passes 57 = .ok (.getfield 22, 3) := dk_180 0 22 (dk_at dksX5_passes_2 12 rfl rfl)
theorem dX5_passes_60 : decode cX5_passes 60 = .ok (.iload_n 1, 1) := dk_27 (dk_at dksX5_passes_2 15 rfl rfl)
theorem dX5_passes_61 : decode cX5_passes 61 = .ok (.iconst 0, 1) := dk_3 (dk_at dksX5_passes_2 16 rfl rfl)
theorem dX5_passes_62 : decode cX5_passes 62 = .ok (.iastore, 1) := dk_79 (dk_at dksX5_passes_2 17 rfl rfl)
theorem dX5_passes_63 : decode cX5_passes 63 = .ok (.iinc 1 1, 3) := dk_132 1 1 (dk_at dksX5_passes_2 18 rfl rfl)
theorem dX5_passes_66 : decode cX5_passes 66 = .ok (.goto (-60), 3) := dk_167 255 196 (dk_at dksX5_passes_2 21 rfl rfl)
theorem dX5_passes_69 : decode cX5_passes 69 = .ok (.aload_n 0, 1) := dk_42 (dk_at dksX5_passes_3 0 rfl rfl)
theorem dX5_passes_70 : decode cX5_passes 70 = .ok (.dup, 1) := dk_89 (dk_at dksX5_passes_3 1 rfl rfl)
theorem dX5_passes_71 : decode cX5_passes 71 = .ok (.getfield 53, 3) := dk_180 0 53 (dk_at dksX5_passes_3 2 rfl rfl)
theorem dX5_passes_74 : decode cX5_passes 74 = .ok (.iconst 1, 1) := dk_4 (dk_at dksX5_passes_3 5 rfl rfl)
theorem dX5_passes_75 : decode cX5_passes 75 = .ok (.iadd, 1) := dk_96 (dk_at dksX5_passes_3 6 rfl rfl)
theorem dX5_passes_76 : decode cX5_passes 76 = .ok (.putfield 53, 3) := dk_181 0 53 (dk_at dksX5_passes_3 7 rfl rfl)
theorem dX5_passes_79 : decode cX5_passes 79 = .ok (.return_, 1) := dk_177 (dk_at dksX5_passes_3 10 rfl rfl)
abbrev cX5_rests : ByteArray := prog_6_method_13_code
def yX5_rests : MethodName := ⟨RX5, "rests", "()Z"⟩
def dkwX5_rests_3 : List UInt8 := [180, 0, 104, 180, 0, 108, 96, 184, 0, 113, 79, 132, 2, 1, 167, 255, 177, 27, 172]
abbrev dktX5_rests_3 : List UInt8 := dkwX5_rests_3 ++ []
def dkwX5_rests_2 : List UInt8 := [28, 42, 180, 0, 3, 28, 182, 0, 65, 180, 0, 69, 42, 180, 0, 15, 28, 46, 42, 180, 0, 3]
abbrev dktX5_rests_2 : List UInt8 := dkwX5_rests_2 ++ dktX5_rests_3
def dkwX5_rests_1 : List UInt8 := [180, 0, 3, 28, 182, 0, 65, 180, 0, 69, 162, 0, 7, 4, 167, 0, 4, 3, 128, 60, 42, 180, 0, 15]
abbrev dktX5_rests_1 : List UInt8 := dkwX5_rests_1 ++ dktX5_rests_2
def dkwX5_rests_0 : List UInt8 := [3, 60, 3, 61, 28, 42, 180, 0, 3, 182, 0, 62, 162, 0, 74, 27, 42, 180, 0, 15, 28, 46, 42]
abbrev dktX5_rests_0 : List UInt8 := dkwX5_rests_0 ++ dktX5_rests_1
theorem dksX5_rests_0 : cX5_rests.data.toList.drop 0 = dktX5_rests_0 := by decide +kernel
theorem dksX5_rests_1 : cX5_rests.data.toList.drop 23 = dktX5_rests_1 := dk_seg dksX5_rests_0 23 rfl rfl
theorem dksX5_rests_2 : cX5_rests.data.toList.drop 47 = dktX5_rests_2 := dk_seg dksX5_rests_1 24 rfl rfl
theorem dksX5_rests_3 : cX5_rests.data.toList.drop 69 = dktX5_rests_3 := dk_seg dksX5_rests_2 22 rfl rfl
theorem dX5_rests_0 : decode cX5_rests 0 = .ok (.iconst 0, 1) := dk_3 (dk_at dksX5_rests_0 0 rfl rfl)
theorem dX5_rests_1 : decode cX5_rests 1 = .ok (.istore_n 1, 1) := dk_60 (dk_at dksX5_rests_0 1 rfl rfl)
theorem dX5_rests_2 : decode cX5_rests 2 = .ok (.iconst 0, 1) := dk_3 (dk_at dksX5_rests_0 2 rfl rfl)
theorem dX5_rests_3 : decode cX5_rests 3 = .ok (.istore_n 2, 1) := dk_61 (dk_at dksX5_rests_0 3 rfl rfl)
theorem dX5_rests_4 : decode cX5_rests 4 = .ok (.iload_n 2, 1) := dk_28 (dk_at dksX5_rests_0 4 rfl rfl)
theorem dX5_rests_5 : decode cX5_rests 5 = .ok (.aload_n 0, 1) := dk_42 (dk_at dksX5_rests_0 5 rfl rfl)
theorem dX5_rests_6 : decode cX5_rests 6 = .ok (.getfield 3, 3) := dk_180 0 3 (dk_at dksX5_rests_0 6 rfl rfl)
theorem dX5_rests_9 : decode cX5_rests 9 = .ok (.invokevirtual 62, 3) := dk_182 0 62 (dk_at dksX5_rests_0 9 rfl rfl)
theorem dX5_rests_12 : decode cX5_rests 12 = .ok (.if_icmp .ge 74, 3) := dk_162 0 74 (dk_at dksX5_rests_0 12 rfl rfl)
theorem dX5_rests_15 : decode cX5_rests 15 = .ok (.iload_n 1, 1) := dk_27 (dk_at dksX5_rests_0 15 rfl rfl)
theorem dX5_rests_16 : decode cX5_rests 16 = .ok (.aload_n 0, 1) := dk_42 (dk_at dksX5_rests_0 16 rfl rfl)
theorem dX5_rests_17 : decode cX5_rests 17 = .ok (.getfield 15, 3) := dk_180 0 15 (dk_at dksX5_rests_0 17 rfl rfl)
theorem dX5_rests_20 : decode cX5_rests 20 = .ok (.iload_n 2, 1) := dk_28 (dk_at dksX5_rests_0 20 rfl rfl)
theorem dX5_rests_21 : decode cX5_rests 21 = .ok (.iaload, 1) := dk_46 (dk_at dksX5_rests_0 21 rfl rfl)
theorem dX5_rests_22 : decode cX5_rests 22 = .ok (.aload_n 0, 1) := dk_42 (dk_at dksX5_rests_0 22 rfl rfl)
theorem dX5_rests_23 : decode cX5_rests 23 = .ok (.getfield 3, 3) := dk_180 0 3 (dk_at dksX5_rests_1 0 rfl rfl)
theorem dX5_rests_26 : decode cX5_rests 26 = .ok (.iload_n 2, 1) := dk_28 (dk_at dksX5_rests_1 3 rfl rfl)
theorem dX5_rests_27 : decode cX5_rests 27 = .ok (.invokevirtual 65, 3) := dk_182 0 65 (dk_at dksX5_rests_1 4 rfl rfl)
theorem dX5_rests_30 : decode cX5_rests 30 = .ok (.getfield 69, 3) := dk_180 0 69 (dk_at dksX5_rests_1 7 rfl rfl)
theorem dX5_rests_33 : decode cX5_rests 33 = .ok (.if_icmp .ge 7, 3) := dk_162 0 7 (dk_at dksX5_rests_1 10 rfl rfl)
theorem dX5_rests_36 : decode cX5_rests 36 = .ok (.iconst 1, 1) := dk_4 (dk_at dksX5_rests_1 13 rfl rfl)
theorem dX5_rests_37 : decode cX5_rests 37 = .ok (.goto 4, 3) := dk_167 0 4 (dk_at dksX5_rests_1 14 rfl rfl)
theorem dX5_rests_40 : decode cX5_rests 40 = .ok (.iconst 0, 1) := dk_3 (dk_at dksX5_rests_1 17 rfl rfl)
theorem dX5_rests_41 : decode cX5_rests 41 = .ok (.ior, 1) := dk_128 (dk_at dksX5_rests_1 18 rfl rfl)
theorem dX5_rests_42 : decode cX5_rests 42 = .ok (.istore_n 1, 1) := dk_60 (dk_at dksX5_rests_1 19 rfl rfl)
theorem dX5_rests_43 : decode cX5_rests 43 = .ok (.aload_n 0, 1) := dk_42 (dk_at dksX5_rests_1 20 rfl rfl)
theorem dX5_rests_44 : decode cX5_rests 44 = .ok (.getfield 15, 3) := dk_180 0 15 (dk_at dksX5_rests_1 21 rfl rfl)
theorem dX5_rests_47 : decode cX5_rests 47 = .ok (.iload_n 2, 1) := dk_28 (dk_at dksX5_rests_2 0 rfl rfl)
theorem dX5_rests_48 : decode cX5_rests 48 = .ok (.aload_n 0, 1) := dk_42 (dk_at dksX5_rests_2 1 rfl rfl)
theorem dX5_rests_49 : decode cX5_rests 49 = .ok (.getfield 3, 3) := dk_180 0 3 (dk_at dksX5_rests_2 2 rfl rfl)
theorem dX5_rests_52 : decode cX5_rests 52 = .ok (.iload_n 2, 1) := dk_28 (dk_at dksX5_rests_2 5 rfl rfl)
theorem dX5_rests_53 : decode cX5_rests 53 = .ok (.invokevirtual 65, 3) := dk_182 0 65 (dk_at dksX5_rests_2 6 rfl rfl)
theorem dX5_rests_56 : decode cX5_rests 56 = .ok (.getfield 69, 3) := dk_180 0 69 (dk_at dksX5_rests_2 9 rfl rfl)
theorem dX5_rests_59 : decode cX5_rests 59 = .ok (.aload_n 0, 1) := dk_42 (dk_at dksX5_rests_2 12 rfl rfl)
theorem dX5_rests_60 : decode cX5_rests 60 = .ok (.getfield 15, 3) := dk_180 0 15 (dk_at dksX5_rests_2 13 rfl rfl)
theorem dX5_rests_63 : decode cX5_rests 63 = .ok (.iload_n 2, 1) := dk_28 (dk_at dksX5_rests_2 16 rfl rfl)
theorem dX5_rests_64 : decode cX5_rests 64 = .ok (.iaload, 1) := dk_46 (dk_at dksX5_rests_2 17 rfl rfl)
theorem dX5_rests_65 : decode cX5_rests 65 = .ok (.aload_n 0, 1) := dk_42 (dk_at dksX5_rests_2 18 rfl rfl)
theorem dX5_rests_66 : decode cX5_rests 66 = .ok (.getfield 3, 3) := dk_180 0 3 (dk_at dksX5_rests_2 19 rfl rfl)
theorem dX5_rests_69 : decode cX5_rests 69 = .ok (.getfield 104, 3) := dk_180 0 104 (dk_at dksX5_rests_3 0 rfl rfl)
theorem dX5_rests_72 : decode cX5_rests 72 = .ok (.getfield 108, 3) := dk_180 0 108 (dk_at dksX5_rests_3 3 rfl rfl)
theorem dX5_rests_75 : decode cX5_rests 75 = .ok (.iadd, 1) := dk_96 (dk_at dksX5_rests_3 6 rfl rfl)
theorem dX5_rests_76 : decode cX5_rests 76 = .ok (.invokestatic 113, 3) := dk_184 0 113 (dk_at dksX5_rests_3 7 rfl rfl)
theorem dX5_rests_79 : decode cX5_rests 79 = .ok (.iastore, 1) := dk_79 (dk_at dksX5_rests_3 10 rfl rfl)
theorem dX5_rests_80 : decode cX5_rests 80 = .ok (.iinc 2 1, 3) := dk_132 2 1 (dk_at dksX5_rests_3 11 rfl rfl)
theorem dX5_rests_83 : decode cX5_rests 83 = .ok (.goto (-79), 3) := dk_167 255 177 (dk_at dksX5_rests_3 14 rfl rfl)
theorem dX5_rests_86 : decode cX5_rests 86 = .ok (.iload_n 1, 1) := dk_27 (dk_at dksX5_rests_3 17 rfl rfl)
theorem dX5_rests_87 : decode cX5_rests 87 = .ok (.ireturn, 1) := dk_172 (dk_at dksX5_rests_3 18 rfl rfl)
abbrev cX5_turns : ByteArray := prog_6_method_14_code
def yX5_turns : MethodName := ⟨RX5, "turns", "(IZ)Z"⟩
def dkwX5_turns_1 : List UInt8 := [181, 0, 47, 4, 172]
abbrev dktX5_turns_1 : List UInt8 := dkwX5_turns_1 ++ []
def dkwX5_turns_0 : List UInt8 := [42, 180, 0, 47, 27, 184, 0, 85, 28, 160, 0, 5, 3, 172, 42, 89, 180, 0, 47, 4, 27, 120, 130]
abbrev dktX5_turns_0 : List UInt8 := dkwX5_turns_0 ++ dktX5_turns_1
theorem dksX5_turns_0 : cX5_turns.data.toList.drop 0 = dktX5_turns_0 := by decide +kernel
theorem dksX5_turns_1 : cX5_turns.data.toList.drop 23 = dktX5_turns_1 := dk_seg dksX5_turns_0 23 rfl rfl
theorem dX5_turns_0 : decode cX5_turns 0 = .ok (.aload_n 0, 1) := dk_42 (dk_at dksX5_turns_0 0 rfl rfl)
theorem dX5_turns_1 : decode cX5_turns 1 = .ok (.getfield 47, 3) := dk_180 0 47 (dk_at dksX5_turns_0 1 rfl rfl)
theorem dX5_turns_4 : decode cX5_turns 4 = .ok (.iload_n 1, 1) := dk_27 (dk_at dksX5_turns_0 4 rfl rfl)
theorem dX5_turns_5 : decode cX5_turns 5 = .ok (.invokestatic 85, 3) := dk_184 0 85 (dk_at dksX5_turns_0 5 rfl rfl)
theorem dX5_turns_8 : decode cX5_turns 8 = .ok (.iload_n 2, 1) := dk_28 (dk_at dksX5_turns_0 8 rfl rfl)
theorem dX5_turns_9 : decode cX5_turns 9 = .ok (.if_icmp .ne 5, 3) := dk_160 0 5 (dk_at dksX5_turns_0 9 rfl rfl)
theorem dX5_turns_12 : decode cX5_turns 12 = .ok (.iconst 0, 1) := dk_3 (dk_at dksX5_turns_0 12 rfl rfl)
theorem dX5_turns_13 : decode cX5_turns 13 = .ok (.ireturn, 1) := dk_172 (dk_at dksX5_turns_0 13 rfl rfl)
theorem dX5_turns_14 : decode cX5_turns 14 = .ok (.aload_n 0, 1) := dk_42 (dk_at dksX5_turns_0 14 rfl rfl)
theorem dX5_turns_15 : decode cX5_turns 15 = .ok (.dup, 1) := dk_89 (dk_at dksX5_turns_0 15 rfl rfl)
theorem dX5_turns_16 : decode cX5_turns 16 = .ok (.getfield 47, 3) := dk_180 0 47 (dk_at dksX5_turns_0 16 rfl rfl)
theorem dX5_turns_19 : decode cX5_turns 19 = .ok (.iconst 1, 1) := dk_4 (dk_at dksX5_turns_0 19 rfl rfl)
theorem dX5_turns_20 : decode cX5_turns 20 = .ok (.iload_n 1, 1) := dk_27 (dk_at dksX5_turns_0 20 rfl rfl)
theorem dX5_turns_21 : decode cX5_turns 21 = .ok (.ishl, 1) := dk_120 (dk_at dksX5_turns_0 21 rfl rfl)
theorem dX5_turns_22 : decode cX5_turns 22 = .ok (.ixor, 1) := dk_130 (dk_at dksX5_turns_0 22 rfl rfl)
theorem dX5_turns_23 : decode cX5_turns 23 = .ok (.putfield 47, 3) := dk_181 0 47 (dk_at dksX5_turns_1 0 rfl rfl)
theorem dX5_turns_26 : decode cX5_turns 26 = .ok (.iconst 1, 1) := dk_4 (dk_at dksX5_turns_1 3 rfl rfl)
theorem dX5_turns_27 : decode cX5_turns 27 = .ok (.ireturn, 1) := dk_172 (dk_at dksX5_turns_1 4 rfl rfl)
abbrev cX5_words : ByteArray := prog_6_method_15_code
def yX5_words : MethodName := ⟨RX5, "words", "(II)Z"⟩
def dkwX5_words_1 : List UInt8 := [154, 0, 5, 3, 172, 42, 180, 0, 28, 27, 28, 79, 4, 172]
abbrev dktX5_words_1 : List UInt8 := dkwX5_words_1 ++ []
def dkwX5_words_0 : List UInt8 := [42, 180, 0, 28, 27, 46, 28, 159, 0, 18, 42, 180, 0, 3, 27, 182, 0, 118, 28, 184, 0, 85]
abbrev dktX5_words_0 : List UInt8 := dkwX5_words_0 ++ dktX5_words_1
theorem dksX5_words_0 : cX5_words.data.toList.drop 0 = dktX5_words_0 := by decide +kernel
theorem dksX5_words_1 : cX5_words.data.toList.drop 22 = dktX5_words_1 := dk_seg dksX5_words_0 22 rfl rfl
theorem dX5_words_0 : decode cX5_words 0 = .ok (.aload_n 0, 1) := dk_42 (dk_at dksX5_words_0 0 rfl rfl)
theorem dX5_words_1 : decode cX5_words 1 = .ok (.getfield 28, 3) := dk_180 0 28 (dk_at dksX5_words_0 1 rfl rfl)
theorem dX5_words_4 : decode cX5_words 4 = .ok (.iload_n 1, 1) := dk_27 (dk_at dksX5_words_0 4 rfl rfl)
theorem dX5_words_5 : decode cX5_words 5 = .ok (.iaload, 1) := dk_46 (dk_at dksX5_words_0 5 rfl rfl)
theorem dX5_words_6 : decode cX5_words 6 = .ok (.iload_n 2, 1) := dk_28 (dk_at dksX5_words_0 6 rfl rfl)
theorem dX5_words_7 : decode cX5_words 7 = .ok (.if_icmp .eq 18, 3) := dk_159 0 18 (dk_at dksX5_words_0 7 rfl rfl)
theorem dX5_words_10 : decode cX5_words 10 = .ok (.aload_n 0, 1) := dk_42 (dk_at dksX5_words_0 10 rfl rfl)
theorem dX5_words_11 : decode cX5_words 11 = .ok (.getfield 3, 3) := dk_180 0 3 (dk_at dksX5_words_0 11 rfl rfl)
theorem dX5_words_14 : decode cX5_words 14 = .ok (.iload_n 1, 1) := dk_27 (dk_at dksX5_words_0 14 rfl rfl)
theorem dX5_words_15 : decode cX5_words 15 = .ok (.invokevirtual 118, 3) := dk_182 0 118 (dk_at dksX5_words_0 15 rfl rfl)
theorem dX5_words_18 : decode cX5_words 18 = .ok (.iload_n 2, 1) := dk_28 (dk_at dksX5_words_0 18 rfl rfl)
theorem dX5_words_19 : decode cX5_words 19 = .ok (.invokestatic 85, 3) := dk_184 0 85 (dk_at dksX5_words_0 19 rfl rfl)
theorem dX5_words_22 : decode cX5_words 22 = .ok (.ifCond .ne 5, 3) := dk_154 0 5 (dk_at dksX5_words_1 0 rfl rfl)
theorem dX5_words_25 : decode cX5_words 25 = .ok (.iconst 0, 1) := dk_3 (dk_at dksX5_words_1 3 rfl rfl)
theorem dX5_words_26 : decode cX5_words 26 = .ok (.ireturn, 1) := dk_172 (dk_at dksX5_words_1 4 rfl rfl)
theorem dX5_words_27 : decode cX5_words 27 = .ok (.aload_n 0, 1) := dk_42 (dk_at dksX5_words_1 5 rfl rfl)
theorem dX5_words_28 : decode cX5_words 28 = .ok (.getfield 28, 3) := dk_180 0 28 (dk_at dksX5_words_1 6 rfl rfl)
theorem dX5_words_31 : decode cX5_words 31 = .ok (.iload_n 1, 1) := dk_27 (dk_at dksX5_words_1 9 rfl rfl)
theorem dX5_words_32 : decode cX5_words 32 = .ok (.iload_n 2, 1) := dk_28 (dk_at dksX5_words_1 10 rfl rfl)
theorem dX5_words_33 : decode cX5_words 33 = .ok (.iastore, 1) := dk_79 (dk_at dksX5_words_1 11 rfl rfl)
theorem dX5_words_34 : decode cX5_words 34 = .ok (.iconst 1, 1) := dk_4 (dk_at dksX5_words_1 12 rfl rfl)
theorem dX5_words_35 : decode cX5_words 35 = .ok (.ireturn, 1) := dk_172 (dk_at dksX5_words_1 13 rfl rfl)
abbrev cX5_sum : ByteArray := prog_6_method_8_code
def yX5_sum : MethodName := ⟨RX5, "sum", "([I)I"⟩
def dkwX5_sum_1 : List UInt8 := [167, 255, 236, 28, 172]
abbrev dktX5_sum_1 : List UInt8 := dkwX5_sum_1 ++ []
def dkwX5_sum_0 : List UInt8 := [3, 61, 3, 62, 29, 42, 180, 0, 3, 182, 0, 62, 162, 0, 15, 28, 43, 29, 46, 96, 61, 132, 3, 1]
abbrev dktX5_sum_0 : List UInt8 := dkwX5_sum_0 ++ dktX5_sum_1
theorem dksX5_sum_0 : cX5_sum.data.toList.drop 0 = dktX5_sum_0 := by decide +kernel
theorem dksX5_sum_1 : cX5_sum.data.toList.drop 24 = dktX5_sum_1 := dk_seg dksX5_sum_0 24 rfl rfl
theorem dX5_sum_0 : decode cX5_sum 0 = .ok (.iconst 0, 1) := dk_3 (dk_at dksX5_sum_0 0 rfl rfl)
theorem dX5_sum_1 : decode cX5_sum 1 = .ok (.istore_n 2, 1) := dk_61 (dk_at dksX5_sum_0 1 rfl rfl)
theorem dX5_sum_2 : decode cX5_sum 2 = .ok (.iconst 0, 1) := dk_3 (dk_at dksX5_sum_0 2 rfl rfl)
theorem dX5_sum_3 : decode cX5_sum 3 = .ok (.istore_n 3, 1) := dk_62 (dk_at dksX5_sum_0 3 rfl rfl)
theorem dX5_sum_4 : decode cX5_sum 4 = .ok (.iload_n 3, 1) := dk_29 (dk_at dksX5_sum_0 4 rfl rfl)
theorem dX5_sum_5 : decode cX5_sum 5 = .ok (.aload_n 0, 1) := dk_42 (dk_at dksX5_sum_0 5 rfl rfl)
theorem dX5_sum_6 : decode cX5_sum 6 = .ok (.getfield 3, 3) := dk_180 0 3 (dk_at dksX5_sum_0 6 rfl rfl)
theorem dX5_sum_9 : decode cX5_sum 9 = .ok (.invokevirtual 62, 3) := dk_182 0 62 (dk_at dksX5_sum_0 9 rfl rfl)
theorem dX5_sum_12 : decode cX5_sum 12 = .ok (.if_icmp .ge 15, 3) := dk_162 0 15 (dk_at dksX5_sum_0 12 rfl rfl)
theorem dX5_sum_15 : decode cX5_sum 15 = .ok (.iload_n 2, 1) := dk_28 (dk_at dksX5_sum_0 15 rfl rfl)
theorem dX5_sum_16 : decode cX5_sum 16 = .ok (.aload_n 1, 1) := dk_43 (dk_at dksX5_sum_0 16 rfl rfl)
theorem dX5_sum_17 : decode cX5_sum 17 = .ok (.iload_n 3, 1) := dk_29 (dk_at dksX5_sum_0 17 rfl rfl)
theorem dX5_sum_18 : decode cX5_sum 18 = .ok (.iaload, 1) := dk_46 (dk_at dksX5_sum_0 18 rfl rfl)
theorem dX5_sum_19 : decode cX5_sum 19 = .ok (.iadd, 1) := dk_96 (dk_at dksX5_sum_0 19 rfl rfl)
theorem dX5_sum_20 : decode cX5_sum 20 = .ok (.istore_n 2, 1) := dk_61 (dk_at dksX5_sum_0 20 rfl rfl)
theorem dX5_sum_21 : decode cX5_sum 21 = .ok (.iinc 3 1, 3) := dk_132 3 1 (dk_at dksX5_sum_0 21 rfl rfl)
theorem dX5_sum_24 : decode cX5_sum 24 = .ok (.goto (-20), 3) := dk_167 255 236 (dk_at dksX5_sum_1 0 rfl rfl)
theorem dX5_sum_27 : decode cX5_sum 27 = .ok (.iload_n 2, 1) := dk_28 (dk_at dksX5_sum_1 3 rfl rfl)
theorem dX5_sum_28 : decode cX5_sum 28 = .ok (.ireturn, 1) := dk_172 (dk_at dksX5_sum_1 4 rfl rfl)
abbrev cX5_worded : ByteArray := prog_6_method_9_code
def yX5_worded : MethodName := ⟨RX5, "worded", "()I"⟩
def dkwX5_worded_2 : List UInt8 := [132, 2, 1, 167, 255, 212, 27, 172]
abbrev dktX5_worded_2 : List UInt8 := dkwX5_worded_2 ++ []
def dkwX5_worded_1 : List UInt8 := [180, 0, 3, 28, 182, 0, 35, 180, 0, 39, 160, 0, 7, 3, 167, 0, 6, 4, 28, 120, 128, 60]
abbrev dktX5_worded_1 : List UInt8 := dkwX5_worded_1 ++ dktX5_worded_2
def dkwX5_worded_0 : List UInt8 := [3, 60, 3, 61, 28, 42, 180, 0, 3, 182, 0, 31, 162, 0, 39, 27, 42, 180, 0, 28, 28, 46, 42]
abbrev dktX5_worded_0 : List UInt8 := dkwX5_worded_0 ++ dktX5_worded_1
theorem dksX5_worded_0 : cX5_worded.data.toList.drop 0 = dktX5_worded_0 := by decide +kernel
theorem dksX5_worded_1 : cX5_worded.data.toList.drop 23 = dktX5_worded_1 := dk_seg dksX5_worded_0 23 rfl rfl
theorem dksX5_worded_2 : cX5_worded.data.toList.drop 45 = dktX5_worded_2 := dk_seg dksX5_worded_1 22 rfl rfl
theorem dX5_worded_0 : decode cX5_worded 0 = .ok (.iconst 0, 1) := dk_3 (dk_at dksX5_worded_0 0 rfl rfl)
theorem dX5_worded_1 : decode cX5_worded 1 = .ok (.istore_n 1, 1) := dk_60 (dk_at dksX5_worded_0 1 rfl rfl)
theorem dX5_worded_2 : decode cX5_worded 2 = .ok (.iconst 0, 1) := dk_3 (dk_at dksX5_worded_0 2 rfl rfl)
theorem dX5_worded_3 : decode cX5_worded 3 = .ok (.istore_n 2, 1) := dk_61 (dk_at dksX5_worded_0 3 rfl rfl)
theorem dX5_worded_4 : decode cX5_worded 4 = .ok (.iload_n 2, 1) := dk_28 (dk_at dksX5_worded_0 4 rfl rfl)
theorem dX5_worded_5 : decode cX5_worded 5 = .ok (.aload_n 0, 1) := dk_42 (dk_at dksX5_worded_0 5 rfl rfl)
theorem dX5_worded_6 : decode cX5_worded 6 = .ok (.getfield 3, 3) := dk_180 0 3 (dk_at dksX5_worded_0 6 rfl rfl)
theorem dX5_worded_9 : decode cX5_worded 9 = .ok (.invokevirtual 31, 3) := dk_182 0 31 (dk_at dksX5_worded_0 9 rfl rfl)
theorem dX5_worded_12 : decode cX5_worded 12 = .ok (.if_icmp .ge 39, 3) := dk_162 0 39 (dk_at dksX5_worded_0 12 rfl rfl)
theorem dX5_worded_15 : decode cX5_worded 15 = .ok (.iload_n 1, 1) := dk_27 (dk_at dksX5_worded_0 15 rfl rfl)
theorem dX5_worded_16 : decode cX5_worded 16 = .ok (.aload_n 0, 1) := dk_42 (dk_at dksX5_worded_0 16 rfl rfl)
theorem dX5_worded_17 : decode cX5_worded 17 = .ok (.getfield 28, 3) := dk_180 0 28 (dk_at dksX5_worded_0 17 rfl rfl)
theorem dX5_worded_20 : decode cX5_worded 20 = .ok (.iload_n 2, 1) := dk_28 (dk_at dksX5_worded_0 20 rfl rfl)
theorem dX5_worded_21 : decode cX5_worded 21 = .ok (.iaload, 1) := dk_46 (dk_at dksX5_worded_0 21 rfl rfl)
theorem dX5_worded_22 : decode cX5_worded 22 = .ok (.aload_n 0, 1) := dk_42 (dk_at dksX5_worded_0 22 rfl rfl)
theorem dX5_worded_23 : decode cX5_worded 23 = .ok (.getfield 3, 3) := dk_180 0 3 (dk_at dksX5_worded_1 0 rfl rfl)
theorem dX5_worded_26 : decode cX5_worded 26 = .ok (.iload_n 2, 1) := dk_28 (dk_at dksX5_worded_1 3 rfl rfl)
theorem dX5_worded_27 : decode cX5_worded 27 = .ok (.invokevirtual 35, 3) := dk_182 0 35 (dk_at dksX5_worded_1 4 rfl rfl)
theorem dX5_worded_30 : decode cX5_worded 30 = .ok (.getfield 39, 3) := dk_180 0 39 (dk_at dksX5_worded_1 7 rfl rfl)
theorem dX5_worded_33 : decode cX5_worded 33 = .ok (.if_icmp .ne 7, 3) := dk_160 0 7 (dk_at dksX5_worded_1 10 rfl rfl)
theorem dX5_worded_36 : decode cX5_worded 36 = .ok (.iconst 0, 1) := dk_3 (dk_at dksX5_worded_1 13 rfl rfl)
theorem dX5_worded_37 : decode cX5_worded 37 = .ok (.goto 6, 3) := dk_167 0 6 (dk_at dksX5_worded_1 14 rfl rfl)
theorem dX5_worded_40 : decode cX5_worded 40 = .ok (.iconst 1, 1) := dk_4 (dk_at dksX5_worded_1 17 rfl rfl)
theorem dX5_worded_41 : decode cX5_worded 41 = .ok (.iload_n 2, 1) := dk_28 (dk_at dksX5_worded_1 18 rfl rfl)
theorem dX5_worded_42 : decode cX5_worded 42 = .ok (.ishl, 1) := dk_120 (dk_at dksX5_worded_1 19 rfl rfl)
theorem dX5_worded_43 : decode cX5_worded 43 = .ok (.ior, 1) := dk_128 (dk_at dksX5_worded_1 20 rfl rfl)
theorem dX5_worded_44 : decode cX5_worded 44 = .ok (.istore_n 1, 1) := dk_60 (dk_at dksX5_worded_1 21 rfl rfl)
theorem dX5_worded_45 : decode cX5_worded 45 = .ok (.iinc 2 1, 3) := dk_132 2 1 (dk_at dksX5_worded_2 0 rfl rfl)
theorem dX5_worded_48 : decode cX5_worded 48 = .ok (.goto (-44), 3) := dk_167 255 212 (dk_at dksX5_worded_2 3 rfl rfl)
theorem dX5_worded_51 : decode cX5_worded 51 = .ok (.iload_n 1, 1) := dk_27 (dk_at dksX5_worded_2 6 rfl rfl)
theorem dX5_worded_52 : decode cX5_worded 52 = .ok (.ireturn, 1) := dk_172 (dk_at dksX5_worded_2 7 rfl rfl)
abbrev cX5_soundsOf : ByteArray := prog_6_method_10_code
def yX5_soundsOf : MethodName := ⟨RX5, "soundsOf", "(I)I"⟩
def dkwX5_soundsOf_1 : List UInt8 := [160, 0, 9, 4, 29, 120, 167, 0, 4, 3, 128, 61, 132, 3, 1, 167, 255, 222, 28, 172]
abbrev dktX5_soundsOf_1 : List UInt8 := dkwX5_soundsOf_1 ++ []
def dkwX5_soundsOf_0 : List UInt8 := [3, 61, 3, 62, 29, 42, 180, 0, 3, 182, 0, 31, 162, 0, 29, 28, 42, 180, 0, 28, 29, 46, 27]
abbrev dktX5_soundsOf_0 : List UInt8 := dkwX5_soundsOf_0 ++ dktX5_soundsOf_1
theorem dksX5_soundsOf_0 : cX5_soundsOf.data.toList.drop 0 = dktX5_soundsOf_0 := by decide +kernel
theorem dksX5_soundsOf_1 : cX5_soundsOf.data.toList.drop 23 = dktX5_soundsOf_1 := dk_seg dksX5_soundsOf_0 23 rfl rfl
theorem dX5_soundsOf_0 : decode cX5_soundsOf 0 = .ok (.iconst 0, 1) := dk_3 (dk_at dksX5_soundsOf_0 0 rfl rfl)
theorem dX5_soundsOf_1 : decode cX5_soundsOf 1 = .ok (.istore_n 2, 1) := dk_61 (dk_at dksX5_soundsOf_0 1 rfl rfl)
theorem dX5_soundsOf_2 : decode cX5_soundsOf 2 = .ok (.iconst 0, 1) := dk_3 (dk_at dksX5_soundsOf_0 2 rfl rfl)
theorem dX5_soundsOf_3 : decode cX5_soundsOf 3 = .ok (.istore_n 3, 1) := dk_62 (dk_at dksX5_soundsOf_0 3 rfl rfl)
theorem dX5_soundsOf_4 : decode cX5_soundsOf 4 = .ok (.iload_n 3, 1) := dk_29 (dk_at dksX5_soundsOf_0 4 rfl rfl)
theorem dX5_soundsOf_5 : decode cX5_soundsOf 5 = .ok (.aload_n 0, 1) := dk_42 (dk_at dksX5_soundsOf_0 5 rfl rfl)
theorem dX5_soundsOf_6 : decode cX5_soundsOf 6 = .ok (.getfield 3, 3) := dk_180 0 3 (dk_at dksX5_soundsOf_0 6 rfl rfl)
theorem dX5_soundsOf_9 : decode cX5_soundsOf 9 = .ok (.invokevirtual 31, 3) := dk_182 0 31 (dk_at dksX5_soundsOf_0 9 rfl rfl)
theorem dX5_soundsOf_12 : decode cX5_soundsOf 12 = .ok (.if_icmp .ge 29, 3) := dk_162 0 29 (dk_at dksX5_soundsOf_0 12 rfl rfl)
theorem dX5_soundsOf_15 : decode cX5_soundsOf 15 = .ok (.iload_n 2, 1) := dk_28 (dk_at dksX5_soundsOf_0 15 rfl rfl)
theorem dX5_soundsOf_16 : decode cX5_soundsOf 16 = .ok (.aload_n 0, 1) := dk_42 (dk_at dksX5_soundsOf_0 16 rfl rfl)
theorem dX5_soundsOf_17 : decode cX5_soundsOf 17 = .ok (.getfield 28, 3) := dk_180 0 28 (dk_at dksX5_soundsOf_0 17 rfl rfl)
theorem dX5_soundsOf_20 : decode cX5_soundsOf 20 = .ok (.iload_n 3, 1) := dk_29 (dk_at dksX5_soundsOf_0 20 rfl rfl)
theorem dX5_soundsOf_21 : decode cX5_soundsOf 21 = .ok (.iaload, 1) := dk_46 (dk_at dksX5_soundsOf_0 21 rfl rfl)
theorem dX5_soundsOf_22 : decode cX5_soundsOf 22 = .ok (.iload_n 1, 1) := dk_27 (dk_at dksX5_soundsOf_0 22 rfl rfl)
theorem dX5_soundsOf_23 : decode cX5_soundsOf 23 = .ok (.if_icmp .ne 9, 3) := dk_160 0 9 (dk_at dksX5_soundsOf_1 0 rfl rfl)
theorem dX5_soundsOf_26 : decode cX5_soundsOf 26 = .ok (.iconst 1, 1) := dk_4 (dk_at dksX5_soundsOf_1 3 rfl rfl)
theorem dX5_soundsOf_27 : decode cX5_soundsOf 27 = .ok (.iload_n 3, 1) := dk_29 (dk_at dksX5_soundsOf_1 4 rfl rfl)
theorem dX5_soundsOf_28 : decode cX5_soundsOf 28 = .ok (.ishl, 1) := dk_120 (dk_at dksX5_soundsOf_1 5 rfl rfl)
theorem dX5_soundsOf_29 : decode cX5_soundsOf 29 = .ok (.goto 4, 3) := dk_167 0 4 (dk_at dksX5_soundsOf_1 6 rfl rfl)
theorem dX5_soundsOf_32 : decode cX5_soundsOf 32 = .ok (.iconst 0, 1) := dk_3 (dk_at dksX5_soundsOf_1 9 rfl rfl)
theorem dX5_soundsOf_33 : decode cX5_soundsOf 33 = .ok (.ior, 1) := dk_128 (dk_at dksX5_soundsOf_1 10 rfl rfl)
theorem dX5_soundsOf_34 : decode cX5_soundsOf 34 = .ok (.istore_n 2, 1) := dk_61 (dk_at dksX5_soundsOf_1 11 rfl rfl)
theorem dX5_soundsOf_35 : decode cX5_soundsOf 35 = .ok (.iinc 3 1, 3) := dk_132 3 1 (dk_at dksX5_soundsOf_1 12 rfl rfl)
theorem dX5_soundsOf_38 : decode cX5_soundsOf 38 = .ok (.goto (-34), 3) := dk_167 255 222 (dk_at dksX5_soundsOf_1 15 rfl rfl)
theorem dX5_soundsOf_41 : decode cX5_soundsOf 41 = .ok (.iload_n 2, 1) := dk_28 (dk_at dksX5_soundsOf_1 18 rfl rfl)
theorem dX5_soundsOf_42 : decode cX5_soundsOf 42 = .ok (.ireturn, 1) := dk_172 (dk_at dksX5_soundsOf_1 19 rfl rfl)
theorem q122 : (Jvm.Cond.initialized "VowelChoir$Choir") ∈ lw_all := lw_g (lw_at lw_m1 24 rfl) rfl
theorem q522 : (Jvm.Cond.fieldLinkNest "VowelChoir$Choir" (108 : Nat) "VowelChoir$Told" "rest" "I" "VowelChoir") ∈ lw_tbl := lw_at lw_m2 184 rfl
theorem q552 : (Jvm.Cond.instantiable "VowelChoir$Choir" (12 : Nat)) ∈ lw_all := lw_g (lw_at lw_m2 214 rfl) rfl
theorem q554 : (Jvm.Cond.instanceMethod ({ cls := "VowelChoir$Choir", name := "<init>", desc := "(LVowelChoir;)V" } : Jvm.MethodName)) ∈ lw_all := lw_g (lw_at lw_m2 216 rfl) rfl
theorem q555 : (Jvm.Cond.code ({ cls := "VowelChoir$Choir", name := "<init>", desc := "(LVowelChoir;)V" } : Jvm.MethodName) prog_6_method_1_code (2 : Nat) (Option.none : Option Jvm.ClassFile.FieldType)) ∈ lw_all := lw_g (lw_at lw_m2 217 rfl) rfl
theorem q556 : (Jvm.Cond.methodLink "VowelChoir$Choir" (9 : Nat) ({ cls := "java/lang/Object", name := "<init>", desc := "()V" } : Jvm.MethodName)) ∈ lw_all := lw_g (lw_at lw_m2 218 rfl) rfl
theorem q557 : (Jvm.Cond.fieldLink "VowelChoir$Choir" (15 : Nat) "VowelChoir$Choir" "left" "[I") ∈ lw_all := lw_g (lw_at lw_m2 219 rfl) rfl
theorem q559 : (Jvm.Cond.fieldLink "VowelChoir$Choir" (19 : Nat) "VowelChoir$Choir" "sung" "[I") ∈ lw_all := lw_g (lw_at lw_m2 221 rfl) rfl
theorem q561 : (Jvm.Cond.fieldLink "VowelChoir$Choir" (22 : Nat) "VowelChoir$Choir" "today" "[I") ∈ lw_all := lw_g (lw_at lw_m2 223 rfl) rfl
theorem q563 : (Jvm.Cond.fieldLink "VowelChoir$Choir" (25 : Nat) "VowelChoir$Choir" "owed" "[I") ∈ lw_all := lw_g (lw_at lw_m2 225 rfl) rfl
theorem q565 : (Jvm.Cond.fieldLink "VowelChoir$Choir" (28 : Nat) "VowelChoir$Choir" "vowel" "[I") ∈ lw_all := lw_g (lw_at lw_m2 227 rfl) rfl
theorem q567 : (Jvm.Cond.fieldLink "VowelChoir$Choir" (47 : Nat) "VowelChoir$Choir" "hoarse" "I") ∈ lw_all := lw_g (lw_at lw_m2 229 rfl) rfl
theorem q569 : (Jvm.Cond.fieldLink "VowelChoir$Choir" (50 : Nat) "VowelChoir$Choir" "dropped" "I") ∈ lw_all := lw_g (lw_at lw_m2 231 rfl) rfl
theorem q571 : (Jvm.Cond.fieldLink "VowelChoir$Choir" (53 : Nat) "VowelChoir$Choir" "day" "I") ∈ lw_all := lw_g (lw_at lw_m2 233 rfl) rfl
theorem q580 : (Jvm.Cond.fieldLink "VowelChoir$Choir" (3 : Nat) "VowelChoir$Choir" "this$0" "LVowelChoir;") ∈ lw_all := lw_g (lw_at lw_m3 2 rfl) rfl
theorem q581 : (Jvm.Cond.laysFinal "VowelChoir$Choir" "VowelChoir$Choir" "left" "[I") ∈ lw_all := lw_g (lw_at lw_m3 3 rfl) rfl
theorem q582 : (Jvm.Cond.soleField "VowelChoir$Choir" "left") ∈ lw_all := lw_g (lw_at lw_m3 4 rfl) rfl
theorem q583 : (Jvm.Cond.laysFinal "VowelChoir$Choir" "VowelChoir$Choir" "sung" "[I") ∈ lw_all := lw_g (lw_at lw_m3 5 rfl) rfl
theorem q584 : (Jvm.Cond.soleField "VowelChoir$Choir" "sung") ∈ lw_all := lw_g (lw_at lw_m3 6 rfl) rfl
theorem q585 : (Jvm.Cond.laysFinal "VowelChoir$Choir" "VowelChoir$Choir" "today" "[I") ∈ lw_all := lw_g (lw_at lw_m3 7 rfl) rfl
theorem q586 : (Jvm.Cond.soleField "VowelChoir$Choir" "today") ∈ lw_all := lw_g (lw_at lw_m3 8 rfl) rfl
theorem q587 : (Jvm.Cond.laysFinal "VowelChoir$Choir" "VowelChoir$Choir" "owed" "[I") ∈ lw_all := lw_g (lw_at lw_m3 9 rfl) rfl
theorem q588 : (Jvm.Cond.soleField "VowelChoir$Choir" "owed") ∈ lw_all := lw_g (lw_at lw_m3 10 rfl) rfl
theorem q589 : (Jvm.Cond.laysFinal "VowelChoir$Choir" "VowelChoir$Choir" "vowel" "[I") ∈ lw_all := lw_g (lw_at lw_m3 11 rfl) rfl
theorem q590 : (Jvm.Cond.soleField "VowelChoir$Choir" "vowel") ∈ lw_all := lw_g (lw_at lw_m3 12 rfl) rfl
theorem q591 : (Jvm.Cond.lays "VowelChoir$Choir" "VowelChoir$Choir" "hoarse" "I") ∈ lw_all := lw_g (lw_at lw_m3 13 rfl) rfl
theorem q592 : (Jvm.Cond.soleField "VowelChoir$Choir" "hoarse") ∈ lw_all := lw_g (lw_at lw_m3 14 rfl) rfl
theorem q593 : (Jvm.Cond.lays "VowelChoir$Choir" "VowelChoir$Choir" "dropped" "I") ∈ lw_all := lw_g (lw_at lw_m3 15 rfl) rfl
theorem q594 : (Jvm.Cond.soleField "VowelChoir$Choir" "dropped") ∈ lw_all := lw_g (lw_at lw_m3 16 rfl) rfl
theorem q595 : (Jvm.Cond.lays "VowelChoir$Choir" "VowelChoir$Choir" "day" "I") ∈ lw_all := lw_g (lw_at lw_m3 17 rfl) rfl
theorem q596 : (Jvm.Cond.soleField "VowelChoir$Choir" "day") ∈ lw_all := lw_g (lw_at lw_m3 18 rfl) rfl
theorem q597 : (Jvm.Cond.lays "VowelChoir$Choir" "VowelChoir$Choir" "steps" "I") ∈ lw_all := lw_g (lw_at lw_m3 19 rfl) rfl
theorem q598 : (Jvm.Cond.soleField "VowelChoir$Choir" "steps") ∈ lw_all := lw_g (lw_at lw_m3 20 rfl) rfl
theorem q599 : (Jvm.Cond.lays "VowelChoir$Choir" "VowelChoir$Choir" "done" "I") ∈ lw_all := lw_g (lw_at lw_m3 21 rfl) rfl
theorem q600 : (Jvm.Cond.soleField "VowelChoir$Choir" "done") ∈ lw_all := lw_g (lw_at lw_m3 22 rfl) rfl
theorem q601 : (Jvm.Cond.lays "VowelChoir$Choir" "VowelChoir$Choir" "refused" "I") ∈ lw_all := lw_g (lw_at lw_m3 23 rfl) rfl
theorem q602 : (Jvm.Cond.soleField "VowelChoir$Choir" "refused") ∈ lw_all := lw_g (lw_at lw_m3 24 rfl) rfl
theorem q603 : (Jvm.Cond.laysFinal "VowelChoir$Choir" "VowelChoir$Choir" "this$0" "LVowelChoir;") ∈ lw_all := lw_g (lw_at lw_m3 25 rfl) rfl
theorem q604 : (Jvm.Cond.soleField "VowelChoir$Choir" "this$0") ∈ lw_all := lw_g (lw_at lw_m3 26 rfl) rfl
theorem q605 : (Jvm.Cond.superclass "VowelChoir$Choir" "java/lang/Object") ∈ lw_all := lw_g (lw_at lw_m3 27 rfl) rfl
theorem q613 : (Jvm.Cond.instanceMethod ({ cls := "VowelChoir$Choir", name := "begins", desc := "()LVowelChoir$Choir;" } : Jvm.MethodName)) ∈ lw_all := lw_g (lw_at lw_m3 35 rfl) rfl
theorem q614 : (Jvm.Cond.selects "VowelChoir$Choir" ({ cls := "VowelChoir$Choir", name := "begins", desc := "()LVowelChoir$Choir;" } : Jvm.MethodName) ({ cls := "VowelChoir$Choir", name := "begins", desc := "()LVowelChoir$Choir;" } : Jvm.MethodName)) ∈ lw_all := lw_g (lw_at lw_m3 36 rfl) rfl
theorem q615 : (Jvm.Cond.code ({ cls := "VowelChoir$Choir", name := "begins", desc := "()LVowelChoir$Choir;" } : Jvm.MethodName) prog_6_method_2_code (2 : Nat) (Option.some (Jvm.ClassFile.FieldType.object "VowelChoir$Choir"))) ∈ lw_all := lw_g (lw_at lw_m3 37 rfl) rfl
theorem q616 : (Jvm.Cond.methodLinkNest "VowelChoir$Choir" (31 : Nat) ({ cls := "VowelChoir", name := "notes", desc := "()I" } : Jvm.MethodName) "VowelChoir") ∈ lw_tbl := lw_at lw_m3 38 rfl
theorem q624 : (Jvm.Cond.methodLinkNest "VowelChoir$Choir" (35 : Nat) ({ cls := "VowelChoir", name := "noteOf", desc := "(I)LVowelChoir$Note;" } : Jvm.MethodName) "VowelChoir") ∈ lw_tbl := lw_at lw_m3 46 rfl
theorem q643 : (Jvm.Cond.methodLink "VowelChoir$Choir" (44 : Nat) ({ cls := "VowelChoir$Choir", name := "breathes", desc := "()V" } : Jvm.MethodName)) ∈ lw_all := lw_g (lw_at lw_m3 65 rfl) rfl
theorem q644 : (Jvm.Cond.instanceMethod ({ cls := "VowelChoir$Choir", name := "breathes", desc := "()V" } : Jvm.MethodName)) ∈ lw_all := lw_g (lw_at lw_m3 66 rfl) rfl
theorem q645 : (Jvm.Cond.selects "VowelChoir$Choir" ({ cls := "VowelChoir$Choir", name := "breathes", desc := "()V" } : Jvm.MethodName) ({ cls := "VowelChoir$Choir", name := "breathes", desc := "()V" } : Jvm.MethodName)) ∈ lw_all := lw_g (lw_at lw_m3 67 rfl) rfl
theorem q646 : (Jvm.Cond.code ({ cls := "VowelChoir$Choir", name := "breathes", desc := "()V" } : Jvm.MethodName) prog_6_method_4_code (2 : Nat) (Option.none : Option Jvm.ClassFile.FieldType)) ∈ lw_all := lw_g (lw_at lw_m3 68 rfl) rfl
theorem q647 : (Jvm.Cond.methodLinkNest "VowelChoir$Choir" (62 : Nat) ({ cls := "VowelChoir", name := "singers", desc := "()I" } : Jvm.MethodName) "VowelChoir") ∈ lw_tbl := lw_at lw_m3 69 rfl
theorem q651 : (Jvm.Cond.methodLinkNest "VowelChoir$Choir" (65 : Nat) ({ cls := "VowelChoir", name := "singerOf", desc := "(I)LVowelChoir$Singer;" } : Jvm.MethodName) "VowelChoir") ∈ lw_tbl := lw_at lw_m3 73 rfl
theorem q657 : (Jvm.Cond.fieldLinkNest "VowelChoir$Choir" (104 : Nat) "VowelChoir" "told" "LVowelChoir$Told;" "VowelChoir") ∈ lw_tbl := lw_at lw_m3 79 rfl
theorem q741 : (Jvm.Cond.instanceMethod ({ cls := "VowelChoir$Choir", name := "becomes", desc := "(LVowelChoir$Choir;)LVowelChoir$Choir;" } : Jvm.MethodName)) ∈ lw_all := lw_g (lw_at lw_m3 163 rfl) rfl
theorem q742 : (Jvm.Cond.selects "VowelChoir$Choir" ({ cls := "VowelChoir$Choir", name := "becomes", desc := "(LVowelChoir$Choir;)LVowelChoir$Choir;" } : Jvm.MethodName) ({ cls := "VowelChoir$Choir", name := "becomes", desc := "(LVowelChoir$Choir;)LVowelChoir$Choir;" } : Jvm.MethodName)) ∈ lw_all := lw_g (lw_at lw_m3 164 rfl) rfl
theorem q743 : (Jvm.Cond.code ({ cls := "VowelChoir$Choir", name := "becomes", desc := "(LVowelChoir$Choir;)LVowelChoir$Choir;" } : Jvm.MethodName) prog_6_method_3_code (2 : Nat) (Option.some (Jvm.ClassFile.FieldType.object "VowelChoir$Choir"))) ∈ lw_all := lw_g (lw_at lw_m3 165 rfl) rfl
theorem q744 : (Jvm.Cond.methodLink "VowelChoir$Choir" (56 : Nat) ({ cls := "java/lang/System", name := "arraycopy", desc := "(Ljava/lang/Object;ILjava/lang/Object;II)V" } : Jvm.MethodName)) ∈ lw_all := lw_g (lw_at lw_m3 166 rfl) rfl
theorem q751 : (Jvm.Cond.instanceMethod ({ cls := "VowelChoir$Choir", name := "sungBy", desc := "(I)I" } : Jvm.MethodName)) ∈ lw_all := lw_g (lw_at lw_m3 173 rfl) rfl
theorem q752 : (Jvm.Cond.selects "VowelChoir$Choir" ({ cls := "VowelChoir$Choir", name := "sungBy", desc := "(I)I" } : Jvm.MethodName) ({ cls := "VowelChoir$Choir", name := "sungBy", desc := "(I)I" } : Jvm.MethodName)) ∈ lw_all := lw_g (lw_at lw_m3 174 rfl) rfl
theorem q753 : (Jvm.Cond.code ({ cls := "VowelChoir$Choir", name := "sungBy", desc := "(I)I" } : Jvm.MethodName) prog_6_method_7_code (3 : Nat) (Option.some Jvm.ClassFile.FieldType.int)) ∈ lw_all := lw_g (lw_at lw_m3 175 rfl) rfl
theorem q754 : (Jvm.Cond.methodLink "VowelChoir$Choir" (93 : Nat) ({ cls := "VowelChoir$Choir", name := "canSing", desc := "(II)Z" } : Jvm.MethodName)) ∈ lw_all := lw_g (lw_at lw_m3 176 rfl) rfl
theorem q755 : (Jvm.Cond.instanceMethod ({ cls := "VowelChoir$Choir", name := "canSing", desc := "(II)Z" } : Jvm.MethodName)) ∈ lw_all := lw_g (lw_at lw_m3 177 rfl) rfl
theorem q756 : (Jvm.Cond.selects "VowelChoir$Choir" ({ cls := "VowelChoir$Choir", name := "canSing", desc := "(II)Z" } : Jvm.MethodName) ({ cls := "VowelChoir$Choir", name := "canSing", desc := "(II)Z" } : Jvm.MethodName)) ∈ lw_all := lw_g (lw_at lw_m3 178 rfl) rfl
theorem q757 : (Jvm.Cond.code ({ cls := "VowelChoir$Choir", name := "canSing", desc := "(II)Z" } : Jvm.MethodName) prog_6_method_6_code (3 : Nat) (Option.some Jvm.ClassFile.FieldType.boolean)) ∈ lw_all := lw_g (lw_at lw_m3 179 rfl) rfl
theorem q758 : (Jvm.Cond.methodLinkNest "VowelChoir$Choir" (85 : Nat) ({ cls := "VowelChoir", name := "has", desc := "(II)Z" } : Jvm.MethodName) "VowelChoir") ∈ lw_tbl := lw_at lw_m3 180 rfl
theorem q761 : (Jvm.Cond.methodLink "VowelChoir$Choir" (89 : Nat) ({ cls := "VowelChoir$Choir", name := "takes", desc := "(II)I" } : Jvm.MethodName)) ∈ lw_all := lw_g (lw_at lw_m3 183 rfl) rfl
theorem q762 : (Jvm.Cond.instanceMethod ({ cls := "VowelChoir$Choir", name := "takes", desc := "(II)I" } : Jvm.MethodName)) ∈ lw_all := lw_g (lw_at lw_m3 184 rfl) rfl
theorem q763 : (Jvm.Cond.selects "VowelChoir$Choir" ({ cls := "VowelChoir$Choir", name := "takes", desc := "(II)I" } : Jvm.MethodName) ({ cls := "VowelChoir$Choir", name := "takes", desc := "(II)I" } : Jvm.MethodName)) ∈ lw_all := lw_g (lw_at lw_m3 185 rfl) rfl
theorem q764 : (Jvm.Cond.code ({ cls := "VowelChoir$Choir", name := "takes", desc := "(II)I" } : Jvm.MethodName) prog_6_method_5_code (3 : Nat) (Option.some Jvm.ClassFile.FieldType.int)) ∈ lw_all := lw_g (lw_at lw_m3 186 rfl) rfl
theorem q765 : (Jvm.Cond.methodLinkNest "VowelChoir$Choir" (80 : Nat) ({ cls := "VowelChoir", name := "takesBy", desc := "(IIIIIIII)I" } : Jvm.MethodName) "VowelChoir") ∈ lw_tbl := lw_at lw_m3 187 rfl
theorem q821 : (Jvm.Cond.instanceMethod ({ cls := "VowelChoir$Choir", name := "hymn", desc := "()I" } : Jvm.MethodName)) ∈ lw_all := lw_g (lw_at lw_m4 3 rfl) rfl
theorem q822 : (Jvm.Cond.selects "VowelChoir$Choir" ({ cls := "VowelChoir$Choir", name := "hymn", desc := "()I" } : Jvm.MethodName) ({ cls := "VowelChoir$Choir", name := "hymn", desc := "()I" } : Jvm.MethodName)) ∈ lw_all := lw_g (lw_at lw_m4 4 rfl) rfl
theorem q823 : (Jvm.Cond.code ({ cls := "VowelChoir$Choir", name := "hymn", desc := "()I" } : Jvm.MethodName) prog_6_method_12_code (3 : Nat) (Option.some Jvm.ClassFile.FieldType.int)) ∈ lw_all := lw_g (lw_at lw_m4 5 rfl) rfl
theorem q824 : (Jvm.Cond.methodLink "VowelChoir$Choir" (100 : Nat) ({ cls := "VowelChoir$Choir", name := "sings", desc := "(I)Z" } : Jvm.MethodName)) ∈ lw_all := lw_g (lw_at lw_m4 6 rfl) rfl
theorem q825 : (Jvm.Cond.instanceMethod ({ cls := "VowelChoir$Choir", name := "sings", desc := "(I)Z" } : Jvm.MethodName)) ∈ lw_all := lw_g (lw_at lw_m4 7 rfl) rfl
theorem q826 : (Jvm.Cond.selects "VowelChoir$Choir" ({ cls := "VowelChoir$Choir", name := "sings", desc := "(I)Z" } : Jvm.MethodName) ({ cls := "VowelChoir$Choir", name := "sings", desc := "(I)Z" } : Jvm.MethodName)) ∈ lw_all := lw_g (lw_at lw_m4 8 rfl) rfl
theorem q827 : (Jvm.Cond.code ({ cls := "VowelChoir$Choir", name := "sings", desc := "(I)Z" } : Jvm.MethodName) prog_6_method_11_code (3 : Nat) (Option.some Jvm.ClassFile.FieldType.boolean)) ∈ lw_all := lw_g (lw_at lw_m4 9 rfl) rfl
theorem q828 : (Jvm.Cond.methodLink "VowelChoir$Choir" (96 : Nat) ({ cls := "VowelChoir$Choir", name := "sungBy", desc := "(I)I" } : Jvm.MethodName)) ∈ lw_all := lw_g (lw_at lw_m4 10 rfl) rfl
theorem q1164 : (Jvm.Cond.fieldLinkNest "VowelChoir$Choir" (84 : Nat) "VowelChoir$Singer" "vowel" "I" "VowelChoir") ∈ lw_tbl := lw_at lw_m5 106 rfl
theorem q1167 : (Jvm.Cond.fieldLinkNest "VowelChoir$Choir" (77 : Nat) "VowelChoir$Singer" "pay" "I" "VowelChoir") ∈ lw_tbl := lw_at lw_m5 109 rfl
theorem q1170 : (Jvm.Cond.fieldLinkNest "VowelChoir$Choir" (69 : Nat) "VowelChoir$Singer" "breath" "I" "VowelChoir") ∈ lw_tbl := lw_at lw_m5 112 rfl
theorem q1208 : (Jvm.Cond.selects "VowelChoir$Choir" ({ cls := "java/lang/Object", name := "getClass", desc := "()Ljava/lang/Class;" } : Jvm.MethodName) ({ cls := "java/lang/Object", name := "getClass", desc := "()Ljava/lang/Class;" } : Jvm.MethodName)) ∈ lw_all := lw_g (lw_at lw_m5 150 rfl) rfl
theorem q1252 : (Jvm.Cond.fieldLinkNest "VowelChoir$Choir" (39 : Nat) "VowelChoir$Note" "vowel" "I" "VowelChoir") ∈ lw_tbl := lw_at lw_m5 194 rfl
theorem q1255 : (Jvm.Cond.fieldLinkNest "VowelChoir$Choir" (74 : Nat) "VowelChoir$Note" "length" "I" "VowelChoir") ∈ lw_tbl := lw_at lw_m5 197 rfl
theorem q1630 : (Jvm.Cond.instanceMethod ({ cls := "VowelChoir$Choir", name := "day", desc := "()Z" } : Jvm.MethodName)) ∈ lw_all := lw_g (lw_at lw_m7 92 rfl) rfl
theorem q1631 : (Jvm.Cond.selects "VowelChoir$Choir" ({ cls := "VowelChoir$Choir", name := "day", desc := "()Z" } : Jvm.MethodName) ({ cls := "VowelChoir$Choir", name := "day", desc := "()Z" } : Jvm.MethodName)) ∈ lw_all := lw_g (lw_at lw_m7 93 rfl) rfl
theorem q1632 : (Jvm.Cond.code ({ cls := "VowelChoir$Choir", name := "day", desc := "()Z" } : Jvm.MethodName) prog_6_method_16_code (1 : Nat) (Option.some Jvm.ClassFile.FieldType.boolean)) ∈ lw_all := lw_g (lw_at lw_m7 94 rfl) rfl
theorem q1633 : (Jvm.Cond.methodLink "VowelChoir$Choir" (121 : Nat) ({ cls := "VowelChoir$Choir", name := "passes", desc := "()V" } : Jvm.MethodName)) ∈ lw_all := lw_g (lw_at lw_m7 95 rfl) rfl
theorem q1634 : (Jvm.Cond.instanceMethod ({ cls := "VowelChoir$Choir", name := "passes", desc := "()V" } : Jvm.MethodName)) ∈ lw_all := lw_g (lw_at lw_m7 96 rfl) rfl
theorem q1635 : (Jvm.Cond.selects "VowelChoir$Choir" ({ cls := "VowelChoir$Choir", name := "passes", desc := "()V" } : Jvm.MethodName) ({ cls := "VowelChoir$Choir", name := "passes", desc := "()V" } : Jvm.MethodName)) ∈ lw_all := lw_g (lw_at lw_m7 97 rfl) rfl
theorem q1636 : (Jvm.Cond.code ({ cls := "VowelChoir$Choir", name := "passes", desc := "()V" } : Jvm.MethodName) prog_6_method_17_code (2 : Nat) (Option.none : Option Jvm.ClassFile.FieldType)) ∈ lw_all := lw_g (lw_at lw_m7 98 rfl) rfl
theorem q1637 : (Jvm.Cond.methodLink "VowelChoir$Choir" (113 : Nat) ({ cls := "java/lang/Math", name := "min", desc := "(II)I" } : Jvm.MethodName)) ∈ lw_all := lw_g (lw_at lw_m7 99 rfl) rfl
theorem q1642 : (Jvm.Cond.instanceMethod ({ cls := "VowelChoir$Choir", name := "rests", desc := "()Z" } : Jvm.MethodName)) ∈ lw_all := lw_g (lw_at lw_m7 104 rfl) rfl
theorem q1643 : (Jvm.Cond.selects "VowelChoir$Choir" ({ cls := "VowelChoir$Choir", name := "rests", desc := "()Z" } : Jvm.MethodName) ({ cls := "VowelChoir$Choir", name := "rests", desc := "()Z" } : Jvm.MethodName)) ∈ lw_all := lw_g (lw_at lw_m7 105 rfl) rfl
theorem q1644 : (Jvm.Cond.code ({ cls := "VowelChoir$Choir", name := "rests", desc := "()Z" } : Jvm.MethodName) prog_6_method_13_code (3 : Nat) (Option.some Jvm.ClassFile.FieldType.boolean)) ∈ lw_all := lw_g (lw_at lw_m7 106 rfl) rfl
theorem q1653 : (Jvm.Cond.instanceMethod ({ cls := "VowelChoir$Choir", name := "turns", desc := "(IZ)Z" } : Jvm.MethodName)) ∈ lw_all := lw_g (lw_at lw_m7 115 rfl) rfl
theorem q1654 : (Jvm.Cond.selects "VowelChoir$Choir" ({ cls := "VowelChoir$Choir", name := "turns", desc := "(IZ)Z" } : Jvm.MethodName) ({ cls := "VowelChoir$Choir", name := "turns", desc := "(IZ)Z" } : Jvm.MethodName)) ∈ lw_all := lw_g (lw_at lw_m7 116 rfl) rfl
theorem q1655 : (Jvm.Cond.code ({ cls := "VowelChoir$Choir", name := "turns", desc := "(IZ)Z" } : Jvm.MethodName) prog_6_method_14_code (3 : Nat) (Option.some Jvm.ClassFile.FieldType.boolean)) ∈ lw_all := lw_g (lw_at lw_m7 117 rfl) rfl
theorem q1660 : (Jvm.Cond.instanceMethod ({ cls := "VowelChoir$Choir", name := "words", desc := "(II)Z" } : Jvm.MethodName)) ∈ lw_all := lw_g (lw_at lw_m7 122 rfl) rfl
theorem q1661 : (Jvm.Cond.selects "VowelChoir$Choir" ({ cls := "VowelChoir$Choir", name := "words", desc := "(II)Z" } : Jvm.MethodName) ({ cls := "VowelChoir$Choir", name := "words", desc := "(II)Z" } : Jvm.MethodName)) ∈ lw_all := lw_g (lw_at lw_m7 123 rfl) rfl
theorem q1662 : (Jvm.Cond.code ({ cls := "VowelChoir$Choir", name := "words", desc := "(II)Z" } : Jvm.MethodName) prog_6_method_15_code (3 : Nat) (Option.some Jvm.ClassFile.FieldType.boolean)) ∈ lw_all := lw_g (lw_at lw_m7 124 rfl) rfl
theorem q1663 : (Jvm.Cond.methodLinkNest "VowelChoir$Choir" (118 : Nat) ({ cls := "VowelChoir", name := "wordsOf", desc := "(I)I" } : Jvm.MethodName) "VowelChoir") ∈ lw_tbl := lw_at lw_m7 125 rfl
theorem q1726 : (Jvm.Cond.instanceMethod ({ cls := "VowelChoir$Choir", name := "sum", desc := "([I)I" } : Jvm.MethodName)) ∈ lw_all := lw_g (lw_at lw_m7 188 rfl) rfl
theorem q1727 : (Jvm.Cond.selects "VowelChoir$Choir" ({ cls := "VowelChoir$Choir", name := "sum", desc := "([I)I" } : Jvm.MethodName) ({ cls := "VowelChoir$Choir", name := "sum", desc := "([I)I" } : Jvm.MethodName)) ∈ lw_all := lw_g (lw_at lw_m7 189 rfl) rfl
theorem q1728 : (Jvm.Cond.code ({ cls := "VowelChoir$Choir", name := "sum", desc := "([I)I" } : Jvm.MethodName) prog_6_method_8_code (4 : Nat) (Option.some Jvm.ClassFile.FieldType.int)) ∈ lw_all := lw_g (lw_at lw_m7 190 rfl) rfl
theorem q1730 : (Jvm.Cond.instanceMethod ({ cls := "VowelChoir$Choir", name := "worded", desc := "()I" } : Jvm.MethodName)) ∈ lw_all := lw_g (lw_at lw_m7 192 rfl) rfl
theorem q1731 : (Jvm.Cond.selects "VowelChoir$Choir" ({ cls := "VowelChoir$Choir", name := "worded", desc := "()I" } : Jvm.MethodName) ({ cls := "VowelChoir$Choir", name := "worded", desc := "()I" } : Jvm.MethodName)) ∈ lw_all := lw_g (lw_at lw_m7 193 rfl) rfl
theorem q1732 : (Jvm.Cond.code ({ cls := "VowelChoir$Choir", name := "worded", desc := "()I" } : Jvm.MethodName) prog_6_method_9_code (3 : Nat) (Option.some Jvm.ClassFile.FieldType.int)) ∈ lw_all := lw_g (lw_at lw_m7 194 rfl) rfl
theorem q1927 : (Jvm.Cond.instanceMethod ({ cls := "VowelChoir$Choir", name := "soundsOf", desc := "(I)I" } : Jvm.MethodName)) ∈ lw_all := lw_g (lw_at lw_m8 149 rfl) rfl
theorem q1928 : (Jvm.Cond.selects "VowelChoir$Choir" ({ cls := "VowelChoir$Choir", name := "soundsOf", desc := "(I)I" } : Jvm.MethodName) ({ cls := "VowelChoir$Choir", name := "soundsOf", desc := "(I)I" } : Jvm.MethodName)) ∈ lw_all := lw_g (lw_at lw_m8 150 rfl) rfl
theorem q1929 : (Jvm.Cond.code ({ cls := "VowelChoir$Choir", name := "soundsOf", desc := "(I)I" } : Jvm.MethodName) prog_6_method_10_code (4 : Nat) (Option.some Jvm.ClassFile.FieldType.int)) ∈ lw_all := lw_g (lw_at lw_m8 151 rfl) rfl
theorem q2635 : (Jvm.Cond.castable "VowelChoir$Choir" "java/lang/Object") ∈ lw_tbl := lw_at lw_m11 137 rfl
theorem in_X5 : ∀ w ∈ wsX50, w ∈ lw_all := lw_in wsX50 [581, 583, 585, 587, 589, 591, 593, 595, 597, 599, 601, 603] (by decide +kernel) (by decide +kernel)
/-! VowelChoir$Reader -/
set_option maxRecDepth 100000
def RX7 : String := "VowelChoir$Reader"
abbrev cX7_init : ByteArray := prog_20_method_1_code
def yX7_init : MethodName := ⟨RX7, "<init>", "([BI)V"⟩
def dkwX7_init_0 : List UInt8 := [42, 183, 0, 3, 42, 43, 181, 0, 9, 42, 28, 181, 0, 15, 177]
abbrev dktX7_init_0 : List UInt8 := dkwX7_init_0 ++ []
theorem dksX7_init_0 : cX7_init.data.toList.drop 0 = dktX7_init_0 := by decide +kernel
theorem dX7_init_0 : decode cX7_init 0 = .ok (.aload_n 0, 1) := dk_42 (dk_at dksX7_init_0 0 rfl rfl)
theorem dX7_init_1 : decode cX7_init 1 = .ok (.invokespecial 3, 3) := dk_183 0 3 (dk_at dksX7_init_0 1 rfl rfl)
theorem dX7_init_4 : decode cX7_init 4 = .ok (.aload_n 0, 1) := dk_42 (dk_at dksX7_init_0 4 rfl rfl)
theorem dX7_init_5 : decode cX7_init 5 = .ok (.aload_n 1, 1) := dk_43 (dk_at dksX7_init_0 5 rfl rfl)
theorem dX7_init_6 : decode cX7_init 6 = .ok (.putfield 9, 3) := dk_181 0 9 (dk_at dksX7_init_0 6 rfl rfl)
theorem dX7_init_9 : decode cX7_init 9 = .ok (.aload_n 0, 1) := dk_42 (dk_at dksX7_init_0 9 rfl rfl)
theorem dX7_init_10 : decode cX7_init 10 = .ok (.iload_n 2, 1) := dk_28 (dk_at dksX7_init_0 10 rfl rfl)
theorem dX7_init_11 : decode cX7_init 11 = .ok (.putfield 15, 3) := dk_181 0 15 (dk_at dksX7_init_0 11 rfl rfl)
theorem dX7_init_14 : decode cX7_init 14 = .ok (.return_, 1) := dk_177 (dk_at dksX7_init_0 14 rfl rfl)
abbrev cX7_sign : ByteArray := prog_20_method_2_code
def yX7_sign : MethodName := ⟨RX7, "sign", "()I"⟩
def dkwX7_sign_2 : List UInt8 := [162, 0, 15, 42, 180, 0, 9, 42, 180, 0, 19, 51, 167, 0, 4, 3, 172]
abbrev dktX7_sign_2 : List UInt8 := dkwX7_sign_2 ++ []
def dkwX7_sign_1 : List UInt8 := [160, 0, 16, 42, 89, 180, 0, 19, 4, 96, 181, 0, 19, 167, 255, 221, 42, 180, 0, 19, 42, 180, 0, 15]
abbrev dktX7_sign_1 : List UInt8 := dkwX7_sign_1 ++ dktX7_sign_2
def dkwX7_sign_0 : List UInt8 := [42, 180, 0, 19, 42, 180, 0, 15, 162, 0, 30, 42, 180, 0, 9, 42, 180, 0, 19, 51, 16, 32]
abbrev dktX7_sign_0 : List UInt8 := dkwX7_sign_0 ++ dktX7_sign_1
theorem dksX7_sign_0 : cX7_sign.data.toList.drop 0 = dktX7_sign_0 := by decide +kernel
theorem dksX7_sign_1 : cX7_sign.data.toList.drop 22 = dktX7_sign_1 := dk_seg dksX7_sign_0 22 rfl rfl
theorem dksX7_sign_2 : cX7_sign.data.toList.drop 46 = dktX7_sign_2 := dk_seg dksX7_sign_1 24 rfl rfl
theorem dX7_sign_0 : decode cX7_sign 0 = .ok (.aload_n 0, 1) := dk_42 (dk_at dksX7_sign_0 0 rfl rfl)
theorem dX7_sign_1 : decode cX7_sign 1 = .ok (.getfield 19, 3) := dk_180 0 19 (dk_at dksX7_sign_0 1 rfl rfl)
theorem dX7_sign_4 : decode cX7_sign 4 = .ok (.aload_n 0, 1) := dk_42 (dk_at dksX7_sign_0 4 rfl rfl)
theorem dX7_sign_5 : decode cX7_sign 5 = .ok (.getfield 15, 3) := dk_180 0 15 (dk_at dksX7_sign_0 5 rfl rfl)
theorem dX7_sign_8 : decode cX7_sign 8 = .ok (.if_icmp .ge 30, 3) := dk_162 0 30 (dk_at dksX7_sign_0 8 rfl rfl)
theorem dX7_sign_11 : decode cX7_sign 11 = .ok (.aload_n 0, 1) := dk_42 (dk_at dksX7_sign_0 11 rfl rfl)
theorem dX7_sign_12 : decode cX7_sign 12 = .ok (.getfield 9, 3) := dk_180 0 9 (dk_at dksX7_sign_0 12 rfl rfl)
theorem dX7_sign_15 : decode cX7_sign 15 = .ok (.aload_n 0, 1) := dk_42 (dk_at dksX7_sign_0 15 rfl rfl)
theorem dX7_sign_16 : decode cX7_sign 16 = .ok (.getfield 19, 3) := dk_180 0 19 (dk_at dksX7_sign_0 16 rfl rfl)
theorem dX7_sign_19 : decode cX7_sign 19 = .ok (.baload, 1) := dk_51 (dk_at dksX7_sign_0 19 rfl rfl)
theorem dX7_sign_20 : decode cX7_sign 20 = .ok (.bipush 32, 2) := dk_16 32 (dk_at dksX7_sign_0 20 rfl rfl)
theorem dX7_sign_22 : decode cX7_sign 22 = .ok (.if_icmp .ne 16, 3) := dk_160 0 16 (dk_at dksX7_sign_1 0 rfl rfl)
theorem dX7_sign_25 : decode cX7_sign 25 = .ok (.aload_n 0, 1) := dk_42 (dk_at dksX7_sign_1 3 rfl rfl)
theorem dX7_sign_26 : decode cX7_sign 26 = .ok (.dup, 1) := dk_89 (dk_at dksX7_sign_1 4 rfl rfl)
theorem dX7_sign_27 : decode cX7_sign 27 = .ok (.getfield 19, 3) := dk_180 0 19 (dk_at dksX7_sign_1 5 rfl rfl)
theorem dX7_sign_30 : decode cX7_sign 30 = .ok (.iconst 1, 1) := dk_4 (dk_at dksX7_sign_1 8 rfl rfl)
theorem dX7_sign_31 : decode cX7_sign 31 = .ok (.iadd, 1) := dk_96 (dk_at dksX7_sign_1 9 rfl rfl)
theorem dX7_sign_32 : decode cX7_sign 32 = .ok (.putfield 19, 3) := dk_181 0 19 (dk_at dksX7_sign_1 10 rfl rfl)
theorem dX7_sign_35 : decode cX7_sign 35 = .ok (.goto (-35), 3) := dk_167 255 221 (dk_at dksX7_sign_1 13 rfl rfl)
theorem dX7_sign_38 : decode cX7_sign 38 = .ok (.aload_n 0, 1) := dk_42 (dk_at dksX7_sign_1 16 rfl rfl)
theorem dX7_sign_39 : decode cX7_sign 39 = .ok (.getfield 19, 3) := dk_180 0 19 (dk_at dksX7_sign_1 17 rfl rfl)
theorem dX7_sign_42 : decode cX7_sign 42 = .ok (.aload_n 0, 1) := dk_42 (dk_at dksX7_sign_1 20 rfl rfl)
theorem dX7_sign_43 : decode cX7_sign 43 = .ok (.getfield 15, 3) := dk_180 0 15 (dk_at dksX7_sign_1 21 rfl rfl)
theorem dX7_sign_46 : decode cX7_sign 46 = .ok (.if_icmp .ge 15, 3) := dk_162 0 15 (dk_at dksX7_sign_2 0 rfl rfl)
theorem dX7_sign_49 : decode cX7_sign 49 = .ok (.aload_n 0, 1) := dk_42 (dk_at dksX7_sign_2 3 rfl rfl)
theorem dX7_sign_50 : decode cX7_sign 50 = .ok (.getfield 9, 3) := dk_180 0 9 (dk_at dksX7_sign_2 4 rfl rfl)
theorem dX7_sign_53 : decode cX7_sign 53 = .ok (.aload_n 0, 1) := dk_42 (dk_at dksX7_sign_2 7 rfl rfl)
theorem dX7_sign_54 : decode cX7_sign 54 = .ok (.getfield 19, 3) := dk_180 0 19 (dk_at dksX7_sign_2 8 rfl rfl)
theorem dX7_sign_57 : decode cX7_sign 57 = .ok (.baload, 1) := dk_51 (dk_at dksX7_sign_2 11 rfl rfl)
theorem dX7_sign_58 : decode cX7_sign 58 = .ok (.goto 4, 3) := dk_167 0 4 (dk_at dksX7_sign_2 12 rfl rfl)
theorem dX7_sign_61 : decode cX7_sign 61 = .ok (.iconst 0, 1) := dk_3 (dk_at dksX7_sign_2 15 rfl rfl)
theorem dX7_sign_62 : decode cX7_sign 62 = .ok (.ireturn, 1) := dk_172 (dk_at dksX7_sign_2 16 rfl rfl)
abbrev cX7_word : ByteArray := prog_20_method_3_code
def yX7_word : MethodName := ⟨RX7, "word", "()Ljava/lang/String;"⟩
def dkwX7_word_3 : List UInt8 := [132, 2, 1, 167, 255, 202, 43, 182, 0, 36, 176]
abbrev dktX7_word_3 : List UInt8 := dkwX7_word_3 ++ []
def dkwX7_word_2 : List UInt8 := [163, 0, 30, 43, 182, 0, 29, 16, 10, 162, 0, 21, 43, 42, 180, 0, 9, 28, 51, 146, 182, 0, 32, 87]
abbrev dktX7_word_2 : List UInt8 := dkwX7_word_2 ++ dktX7_word_3
def dkwX7_word_1 : List UInt8 := [162, 0, 52, 42, 180, 0, 9, 28, 51, 16, 97, 161, 0, 41, 42, 180, 0, 9, 28, 51, 16, 122]
abbrev dktX7_word_1 : List UInt8 := dkwX7_word_1 ++ dktX7_word_2
def dkwX7_word_0 : List UInt8 := [42, 182, 0, 22, 87, 187, 0, 26, 89, 183, 0, 28, 76, 42, 180, 0, 19, 61, 28, 42, 180, 0, 15]
abbrev dktX7_word_0 : List UInt8 := dkwX7_word_0 ++ dktX7_word_1
theorem dksX7_word_0 : cX7_word.data.toList.drop 0 = dktX7_word_0 := by decide +kernel
theorem dksX7_word_1 : cX7_word.data.toList.drop 23 = dktX7_word_1 := dk_seg dksX7_word_0 23 rfl rfl
theorem dksX7_word_2 : cX7_word.data.toList.drop 45 = dktX7_word_2 := dk_seg dksX7_word_1 22 rfl rfl
theorem dksX7_word_3 : cX7_word.data.toList.drop 69 = dktX7_word_3 := dk_seg dksX7_word_2 24 rfl rfl
theorem dX7_word_0 : decode cX7_word 0 = .ok (.aload_n 0, 1) := dk_42 (dk_at dksX7_word_0 0 rfl rfl)
theorem dX7_word_1 : decode cX7_word 1 = .ok (.invokevirtual 22, 3) := dk_182 0 22 (dk_at dksX7_word_0 1 rfl rfl)
theorem dX7_word_4 : decode cX7_word 4 = .ok (.pop, 1) := dk_87 (dk_at dksX7_word_0 4 rfl rfl)
theorem dX7_word_5 : decode cX7_word 5 = .ok (.new 26, 3) := dk_187 0 26 (dk_at dksX7_word_0 5 rfl rfl)
theorem dX7_word_8 : decode cX7_word 8 = .ok (.dup, 1) := dk_89 (dk_at dksX7_word_0 8 rfl rfl)
theorem dX7_word_9 : decode cX7_word 9 = .ok (.invokespecial 28, 3) := dk_183 0 28 (dk_at dksX7_word_0 9 rfl rfl)
theorem dX7_word_12 : decode cX7_word 12 = .ok (.astore_n 1, 1) := dk_76 (dk_at dksX7_word_0 12 rfl rfl)
theorem dX7_word_13 : decode cX7_word 13 = .ok (.aload_n 0, 1) := dk_42 (dk_at dksX7_word_0 13 rfl rfl)
theorem dX7_word_14 : decode cX7_word 14 = .ok (.getfield 19, 3) := dk_180 0 19 (dk_at dksX7_word_0 14 rfl rfl)
theorem dX7_word_17 : decode cX7_word 17 = .ok (.istore_n 2, 1) := dk_61 (dk_at dksX7_word_0 17 rfl rfl)
theorem dX7_word_18 : decode cX7_word 18 = .ok (.iload_n 2, 1) := dk_28 (dk_at dksX7_word_0 18 rfl rfl)
theorem dX7_word_19 : decode cX7_word 19 = .ok (.aload_n 0, 1) := dk_42 (dk_at dksX7_word_0 19 rfl rfl)
theorem dX7_word_20 : decode cX7_word 20 = .ok (.getfield 15, 3) := dk_180 0 15 (dk_at dksX7_word_0 20 rfl rfl)
theorem dX7_word_23 : decode cX7_word 23 = .ok (.if_icmp .ge 52, 3) := dk_162 0 52 (dk_at dksX7_word_1 0 rfl rfl)
theorem dX7_word_26 : decode cX7_word 26 = .ok (.aload_n 0, 1) := dk_42 (dk_at dksX7_word_1 3 rfl rfl)
theorem dX7_word_27 : decode cX7_word 27 = .ok (.getfield 9, 3) := dk_180 0 9 (dk_at dksX7_word_1 4 rfl rfl)
theorem dX7_word_30 : decode cX7_word 30 = .ok (.iload_n 2, 1) := dk_28 (dk_at dksX7_word_1 7 rfl rfl)
theorem dX7_word_31 : decode cX7_word 31 = .ok (.baload, 1) := dk_51 (dk_at dksX7_word_1 8 rfl rfl)
theorem dX7_word_32 : decode cX7_word 32 = .ok (.bipush 97, 2) := dk_16 97 (dk_at dksX7_word_1 9 rfl rfl)
theorem dX7_word_34 : decode cX7_word 34 = .ok (.if_icmp .lt 41, 3) := dk_161 0 41 (dk_at dksX7_word_1 11 rfl rfl)
theorem dX7_word_37 : decode cX7_word 37 = .ok (.aload_n 0, 1) := dk_42 (dk_at dksX7_word_1 14 rfl rfl)
theorem dX7_word_38 : decode cX7_word 38 = .ok (.getfield 9, 3) := dk_180 0 9 (dk_at dksX7_word_1 15 rfl rfl)
theorem dX7_word_41 : decode cX7_word 41 = .ok (.iload_n 2, 1) := dk_28 (dk_at dksX7_word_1 18 rfl rfl)
theorem dX7_word_42 : decode cX7_word 42 = .ok (.baload, 1) := dk_51 (dk_at dksX7_word_1 19 rfl rfl)
theorem dX7_word_43 : decode cX7_word 43 = .ok (.bipush 122, 2) := dk_16 122 (dk_at dksX7_word_1 20 rfl rfl)
theorem dX7_word_45 : decode cX7_word 45 = .ok (.if_icmp .gt 30, 3) := dk_163 0 30 (dk_at dksX7_word_2 0 rfl rfl)
theorem dX7_word_48 : decode cX7_word 48 = .ok (.aload_n 1, 1) := dk_43 (dk_at dksX7_word_2 3 rfl rfl)
theorem dX7_word_49 : decode cX7_word 49 = .ok (.invokevirtual 29, 3) := dk_182 0 29 (dk_at dksX7_word_2 4 rfl rfl)
theorem dX7_word_52 : decode cX7_word 52 = .ok (.bipush 10, 2) := dk_16 10 (dk_at dksX7_word_2 7 rfl rfl)
theorem dX7_word_54 : decode cX7_word 54 = .ok (.if_icmp .ge 21, 3) := dk_162 0 21 (dk_at dksX7_word_2 9 rfl rfl)
theorem dX7_word_57 : decode cX7_word 57 = .ok (.aload_n 1, 1) := dk_43 (dk_at dksX7_word_2 12 rfl rfl)
theorem dX7_word_58 : decode cX7_word 58 = .ok (.aload_n 0, 1) := dk_42 (dk_at dksX7_word_2 13 rfl rfl)
theorem dX7_word_59 : decode cX7_word 59 = .ok (.getfield 9, 3) := dk_180 0 9 (dk_at dksX7_word_2 14 rfl rfl)
theorem dX7_word_62 : decode cX7_word 62 = .ok (.iload_n 2, 1) := dk_28 (dk_at dksX7_word_2 17 rfl rfl)
theorem dX7_word_63 : decode cX7_word 63 = .ok (.baload, 1) := dk_51 (dk_at dksX7_word_2 18 rfl rfl)
theorem dX7_word_64 : decode cX7_word 64 = .ok (.i2c, 1) := dk_146 (dk_at dksX7_word_2 19 rfl rfl)
theorem dX7_word_65 : decode cX7_word 65 = .ok (.invokevirtual 32, 3) := dk_182 0 32 (dk_at dksX7_word_2 20 rfl rfl)
theorem dX7_word_68 : decode cX7_word 68 = .ok (.pop, 1) := dk_87 (dk_at dksX7_word_2 23 rfl rfl)
theorem dX7_word_69 : decode cX7_word 69 = .ok (.iinc 2 1, 3) := dk_132 2 1 (dk_at dksX7_word_3 0 rfl rfl)
theorem dX7_word_72 : decode cX7_word 72 = .ok (.goto (-54), 3) := dk_167 255 202 (dk_at dksX7_word_3 3 rfl rfl)
theorem dX7_word_75 : decode cX7_word 75 = .ok (.aload_n 1, 1) := dk_43 (dk_at dksX7_word_3 6 rfl rfl)
theorem dX7_word_76 : decode cX7_word 76 = .ok (.invokevirtual 36, 3) := dk_182 0 36 (dk_at dksX7_word_3 7 rfl rfl)
theorem dX7_word_79 : decode cX7_word 79 = .ok (.areturn, 1) := dk_176 (dk_at dksX7_word_3 10 rfl rfl)
abbrev cX7_wrong : ByteArray := prog_20_method_4_code
def yX7_wrong : MethodName := ⟨RX7, "wrong", "()LVowelChoir$Wrong;"⟩
def dkwX7_wrong_0 : List UInt8 := [187, 0, 40, 89, 4, 42, 180, 0, 19, 183, 0, 42, 176]
abbrev dktX7_wrong_0 : List UInt8 := dkwX7_wrong_0 ++ []
theorem dksX7_wrong_0 : cX7_wrong.data.toList.drop 0 = dktX7_wrong_0 := by decide +kernel
theorem dX7_wrong_0 : decode cX7_wrong 0 = .ok (.new 40, 3) := dk_187 0 40 (dk_at dksX7_wrong_0 0 rfl rfl)
theorem dX7_wrong_3 : decode cX7_wrong 3 = .ok (.dup, 1) := dk_89 (dk_at dksX7_wrong_0 3 rfl rfl)
theorem dX7_wrong_4 : decode cX7_wrong 4 = .ok (.iconst 1, 1) := dk_4 (dk_at dksX7_wrong_0 4 rfl rfl)
theorem dX7_wrong_5 : decode cX7_wrong 5 = .ok (.aload_n 0, 1) := dk_42 (dk_at dksX7_wrong_0 5 rfl rfl)
theorem dX7_wrong_6 : decode cX7_wrong 6 = .ok (.getfield 19, 3) := dk_180 0 19 (dk_at dksX7_wrong_0 6 rfl rfl)
theorem dX7_wrong_9 : decode cX7_wrong 9 = .ok (.invokespecial 42, 3) := dk_183 0 42 (dk_at dksX7_wrong_0 9 rfl rfl)
theorem dX7_wrong_12 : decode cX7_wrong 12 = .ok (.areturn, 1) := dk_176 (dk_at dksX7_wrong_0 12 rfl rfl)
abbrev cX7_number : ByteArray := prog_20_method_7_code
def yX7_number : MethodName := ⟨RX7, "number", "(II)I"⟩
def dkwX7_number_5 : List UInt8 := [164, 0, 16, 187, 0, 40, 89, 5, 42, 180, 0, 52, 183, 0, 42, 191, 21, 4, 172]
abbrev dktX7_number_5 : List UInt8 := dkwX7_number_5 ++ []
def dkwX7_number_4 : List UInt8 := [54, 4, 42, 89, 180, 0, 19, 4, 96, 181, 0, 19, 167, 255, 182, 21, 4, 27, 161, 0, 9, 21, 4, 28]
abbrev dktX7_number_4 : List UInt8 := dkwX7_number_4 ++ dktX7_number_5
def dkwX7_number_3 : List UInt8 := [16, 10, 21, 4, 104, 42, 180, 0, 9, 42, 180, 0, 19, 51, 96, 16, 48, 100, 18, 55, 184, 0, 56]
abbrev dktX7_number_3 : List UInt8 := dkwX7_number_3 ++ dktX7_number_4
def dkwX7_number_2 : List UInt8 := [42, 180, 0, 19, 51, 16, 48, 161, 0, 55, 42, 180, 0, 9, 42, 180, 0, 19, 51, 16, 57, 163, 0, 41]
abbrev dktX7_number_2 : List UInt8 := dkwX7_number_2 ++ dktX7_number_3
def dkwX7_number_1 : List UInt8 := [180, 0, 19, 181, 0, 52, 3, 54, 4, 42, 180, 0, 19, 42, 180, 0, 15, 162, 0, 69, 42, 180, 0, 9]
abbrev dktX7_number_1 : List UInt8 := dkwX7_number_1 ++ dktX7_number_2
def dkwX7_number_0 : List UInt8 := [42, 182, 0, 22, 62, 29, 16, 48, 161, 0, 9, 29, 16, 57, 164, 0, 8, 42, 182, 0, 45, 191, 42, 42]
abbrev dktX7_number_0 : List UInt8 := dkwX7_number_0 ++ dktX7_number_1
theorem dksX7_number_0 : cX7_number.data.toList.drop 0 = dktX7_number_0 := by decide +kernel
theorem dksX7_number_1 : cX7_number.data.toList.drop 24 = dktX7_number_1 := dk_seg dksX7_number_0 24 rfl rfl
theorem dksX7_number_2 : cX7_number.data.toList.drop 48 = dktX7_number_2 := dk_seg dksX7_number_1 24 rfl rfl
theorem dksX7_number_3 : cX7_number.data.toList.drop 72 = dktX7_number_3 := dk_seg dksX7_number_2 24 rfl rfl
theorem dksX7_number_4 : cX7_number.data.toList.drop 95 = dktX7_number_4 := dk_seg dksX7_number_3 23 rfl rfl
theorem dksX7_number_5 : cX7_number.data.toList.drop 119 = dktX7_number_5 := dk_seg dksX7_number_4 24 rfl rfl
theorem dX7_number_0 : decode cX7_number 0 = .ok (.aload_n 0, 1) := dk_42 (dk_at dksX7_number_0 0 rfl rfl)
theorem dX7_number_1 : decode cX7_number 1 = .ok (.invokevirtual 22, 3) := dk_182 0 22 (dk_at dksX7_number_0 1 rfl rfl)
theorem dX7_number_4 : decode cX7_number 4 = .ok (.istore_n 3, 1) := dk_62 (dk_at dksX7_number_0 4 rfl rfl)
theorem dX7_number_5 : decode cX7_number 5 = .ok (.iload_n 3, 1) := dk_29 (dk_at dksX7_number_0 5 rfl rfl)
theorem dX7_number_6 : decode cX7_number 6 = .ok (.bipush 48, 2) := dk_16 48 (dk_at dksX7_number_0 6 rfl rfl)
theorem dX7_number_8 : decode cX7_number 8 = .ok (.if_icmp .lt 9, 3) := dk_161 0 9 (dk_at dksX7_number_0 8 rfl rfl)
theorem dX7_number_11 : decode cX7_number 11 = .ok (.iload_n 3, 1) := dk_29 (dk_at dksX7_number_0 11 rfl rfl)
theorem dX7_number_12 : decode cX7_number 12 = .ok (.bipush 57, 2) := dk_16 57 (dk_at dksX7_number_0 12 rfl rfl)
theorem dX7_number_14 : decode cX7_number 14 = .ok (.if_icmp .le 8, 3) := dk_164 0 8 (dk_at dksX7_number_0 14 rfl rfl)
theorem dX7_number_17 : decode cX7_number 17 = .ok (.aload_n 0, 1) := dk_42 (dk_at dksX7_number_0 17 rfl rfl)
theorem dX7_number_18 : decode cX7_number 18 = .ok (.invokevirtual 45, 3) := dk_182 0 45 (dk_at dksX7_number_0 18 rfl rfl)
theorem dX7_number_21 : decode cX7_number 21 = .ok (.athrow, 1) := dk_191 (dk_at dksX7_number_0 21 rfl rfl)
theorem dX7_number_22 : decode cX7_number 22 = .ok (.aload_n 0, 1) := dk_42 (dk_at dksX7_number_0 22 rfl rfl)
theorem dX7_number_23 : decode cX7_number 23 = .ok (.aload_n 0, 1) := dk_42 (dk_at dksX7_number_0 23 rfl rfl)
theorem dX7_number_24 : decode cX7_number 24 = .ok (.getfield 19, 3) := dk_180 0 19 (dk_at dksX7_number_1 0 rfl rfl)
theorem dX7_number_27 : decode cX7_number 27 = .ok (.putfield 52, 3) := dk_181 0 52 (dk_at dksX7_number_1 3 rfl rfl)
theorem dX7_number_30 : decode cX7_number 30 = .ok (.iconst 0, 1) := dk_3 (dk_at dksX7_number_1 6 rfl rfl)
theorem dX7_number_31 : decode cX7_number 31 = .ok (.istore 4, 2) := dk_54 4 (dk_at dksX7_number_1 7 rfl rfl)
theorem dX7_number_33 : decode cX7_number 33 = .ok (.aload_n 0, 1) := dk_42 (dk_at dksX7_number_1 9 rfl rfl)
theorem dX7_number_34 : decode cX7_number 34 = .ok (.getfield 19, 3) := dk_180 0 19 (dk_at dksX7_number_1 10 rfl rfl)
theorem dX7_number_37 : decode cX7_number 37 = .ok (.aload_n 0, 1) := dk_42 (dk_at dksX7_number_1 13 rfl rfl)
theorem dX7_number_38 : decode cX7_number 38 = .ok (.getfield 15, 3) := dk_180 0 15 (dk_at dksX7_number_1 14 rfl rfl)
theorem dX7_number_41 : decode cX7_number 41 = .ok (.if_icmp .ge 69, 3) := dk_162 0 69 (dk_at dksX7_number_1 17 rfl rfl)
theorem dX7_number_44 : decode cX7_number 44 = .ok (.aload_n 0, 1) := dk_42 (dk_at dksX7_number_1 20 rfl rfl)
theorem dX7_number_45 : decode cX7_number 45 = .ok (.getfield 9, 3) := dk_180 0 9 (dk_at dksX7_number_1 21 rfl rfl)
theorem dX7_number_48 : decode cX7_number 48 = .ok (.aload_n 0, 1) := dk_42 (dk_at dksX7_number_2 0 rfl rfl)
theorem dX7_number_49 : decode cX7_number 49 = .ok (.getfield 19, 3) := dk_180 0 19 (dk_at dksX7_number_2 1 rfl rfl)
theorem dX7_number_52 : decode cX7_number 52 = .ok (.baload, 1) := dk_51 (dk_at dksX7_number_2 4 rfl rfl)
theorem dX7_number_53 : decode cX7_number 53 = .ok (.bipush 48, 2) := dk_16 48 (dk_at dksX7_number_2 5 rfl rfl)
theorem dX7_number_55 : decode cX7_number 55 = .ok (.if_icmp .lt 55, 3) := dk_161 0 55 (dk_at dksX7_number_2 7 rfl rfl)
theorem dX7_number_58 : decode cX7_number 58 = .ok (.aload_n 0, 1) := dk_42 (dk_at dksX7_number_2 10 rfl rfl)
theorem dX7_number_59 : decode cX7_number 59 = .ok (.getfield 9, 3) := dk_180 0 9 (dk_at dksX7_number_2 11 rfl rfl)
theorem dX7_number_62 : decode cX7_number 62 = .ok (.aload_n 0, 1) := dk_42 (dk_at dksX7_number_2 14 rfl rfl)
theorem dX7_number_63 : decode cX7_number 63 = .ok (.getfield 19, 3) := dk_180 0 19 (dk_at dksX7_number_2 15 rfl rfl)
theorem dX7_number_66 : decode cX7_number 66 = .ok (.baload, 1) := dk_51 (dk_at dksX7_number_2 18 rfl rfl)
theorem dX7_number_67 : decode cX7_number 67 = .ok (.bipush 57, 2) := dk_16 57 (dk_at dksX7_number_2 19 rfl rfl)
theorem dX7_number_69 : decode cX7_number 69 = .ok (.if_icmp .gt 41, 3) := dk_163 0 41 (dk_at dksX7_number_2 21 rfl rfl)
theorem dX7_number_72 : decode cX7_number 72 = .ok (.bipush 10, 2) := dk_16 10 (dk_at dksX7_number_3 0 rfl rfl)
theorem dX7_number_74 : decode cX7_number 74 = .ok (.iload 4, 2) := dk_21 4 (dk_at dksX7_number_3 2 rfl rfl)
theorem dX7_number_76 : decode cX7_number 76 = .ok (.imul, 1) := dk_104 (dk_at dksX7_number_3 4 rfl rfl)
theorem dX7_number_77 : decode cX7_number 77 = .ok (.aload_n 0, 1) := dk_42 (dk_at dksX7_number_3 5 rfl rfl)
theorem dX7_number_78 : decode cX7_number 78 = .ok (.getfield 9, 3) := dk_180 0 9 (dk_at dksX7_number_3 6 rfl rfl)
theorem dX7_number_81 : decode cX7_number 81 = .ok (.aload_n 0, 1) := dk_42 (dk_at dksX7_number_3 9 rfl rfl)
theorem dX7_number_82 : decode cX7_number 82 = .ok (.getfield 19, 3) := dk_180 0 19 (dk_at dksX7_number_3 10 rfl rfl)
theorem dX7_number_85 : decode cX7_number 85 = .ok (.baload, 1) := dk_51 (dk_at dksX7_number_3 13 rfl rfl)
theorem dX7_number_86 : decode cX7_number 86 = .ok (.iadd, 1) := dk_96 (dk_at dksX7_number_3 14 rfl rfl)
theorem dX7_number_87 : decode cX7_number 87 = .ok (.bipush 48, 2) := dk_16 48 (dk_at dksX7_number_3 15 rfl rfl)
theorem dX7_number_89 : decode cX7_number 89 = .ok (.isub, 1) := dk_100 (dk_at dksX7_number_3 17 rfl rfl)
theorem dX7_number_90 : decode cX7_number 90 = .ok (.ldc 55, 2) := dk_18 55 (dk_at dksX7_number_3 18 rfl rfl)
theorem dX7_number_92 : decode cX7_number 92 = .ok (.invokestatic 56, 3) := dk_184 0 56 (dk_at dksX7_number_3 20 rfl rfl)
theorem dX7_number_95 : decode cX7_number 95 = .ok (.istore 4, 2) := dk_54 4 (dk_at dksX7_number_4 0 rfl rfl)
theorem dX7_number_97 : decode cX7_number 97 = .ok (.aload_n 0, 1) := dk_42 (dk_at dksX7_number_4 2 rfl rfl)
theorem dX7_number_98 : decode cX7_number 98 = .ok (.dup, 1) := dk_89 (dk_at dksX7_number_4 3 rfl rfl)
theorem dX7_number_99 : decode cX7_number 99 = .ok (.getfield 19, 3) := dk_180 0 19 (dk_at dksX7_number_4 4 rfl rfl)
theorem dX7_number_102 : decode cX7_number 102 = .ok (.iconst 1, 1) := dk_4 (dk_at dksX7_number_4 7 rfl rfl)
theorem dX7_number_103 : decode cX7_number 103 = .ok (.iadd, 1) := dk_96 (dk_at dksX7_number_4 8 rfl rfl)
theorem dX7_number_104 : decode cX7_number 104 = .ok (.putfield 19, 3) := dk_181 0 19 (dk_at dksX7_number_4 9 rfl rfl)
theorem dX7_number_107 : decode cX7_number 107 = .ok (.goto (-74), 3) := dk_167 255 182 (dk_at dksX7_number_4 12 rfl rfl)
theorem dX7_number_110 : decode cX7_number 110 = .ok (.iload 4, 2) := dk_21 4 (dk_at dksX7_number_4 15 rfl rfl)
theorem dX7_number_112 : decode cX7_number 112 = .ok (.iload_n 1, 1) := dk_27 (dk_at dksX7_number_4 17 rfl rfl)
theorem dX7_number_113 : decode cX7_number 113 = .ok (.if_icmp .lt 9, 3) := dk_161 0 9 (dk_at dksX7_number_4 18 rfl rfl)
theorem dX7_number_116 : decode cX7_number 116 = .ok (.iload 4, 2) := dk_21 4 (dk_at dksX7_number_4 21 rfl rfl)
theorem dX7_number_118 : decode cX7_number 118 = .ok (.iload_n 2, 1) := dk_28 (dk_at dksX7_number_4 23 rfl rfl)
theorem dX7_number_119 : decode cX7_number 119 = .ok (.if_icmp .le 16, 3) := dk_164 0 16 (dk_at dksX7_number_5 0 rfl rfl)
theorem dX7_number_122 : decode cX7_number 122 = .ok (.new 40, 3) := dk_187 0 40 (dk_at dksX7_number_5 3 rfl rfl)
theorem dX7_number_125 : decode cX7_number 125 = .ok (.dup, 1) := dk_89 (dk_at dksX7_number_5 6 rfl rfl)
theorem dX7_number_126 : decode cX7_number 126 = .ok (.iconst 2, 1) := dk_5 (dk_at dksX7_number_5 7 rfl rfl)
theorem dX7_number_127 : decode cX7_number 127 = .ok (.aload_n 0, 1) := dk_42 (dk_at dksX7_number_5 8 rfl rfl)
theorem dX7_number_128 : decode cX7_number 128 = .ok (.getfield 52, 3) := dk_180 0 52 (dk_at dksX7_number_5 9 rfl rfl)
theorem dX7_number_131 : decode cX7_number 131 = .ok (.invokespecial 42, 3) := dk_183 0 42 (dk_at dksX7_number_5 12 rfl rfl)
theorem dX7_number_134 : decode cX7_number 134 = .ok (.athrow, 1) := dk_191 (dk_at dksX7_number_5 15 rfl rfl)
theorem dX7_number_135 : decode cX7_number 135 = .ok (.iload 4, 2) := dk_21 4 (dk_at dksX7_number_5 16 rfl rfl)
theorem dX7_number_137 : decode cX7_number 137 = .ok (.ireturn, 1) := dk_172 (dk_at dksX7_number_5 18 rfl rfl)
abbrev cX7_need : ByteArray := prog_20_method_5_code
def yX7_need : MethodName := ⟨RX7, "need", "(I)V"⟩
def dkwX7_need_0 : List UInt8 := [42, 182, 0, 22, 27, 159, 0, 8, 42, 182, 0, 45, 191, 42, 89, 180, 0, 19, 4, 96, 181, 0, 19, 177]
abbrev dktX7_need_0 : List UInt8 := dkwX7_need_0 ++ []
theorem dksX7_need_0 : cX7_need.data.toList.drop 0 = dktX7_need_0 := by decide +kernel
theorem dX7_need_0 : decode cX7_need 0 = .ok (.aload_n 0, 1) := dk_42 (dk_at dksX7_need_0 0 rfl rfl)
theorem dX7_need_1 : decode cX7_need 1 = .ok (.invokevirtual 22, 3) := dk_182 0 22 (dk_at dksX7_need_0 1 rfl rfl)
theorem dX7_need_4 : decode cX7_need 4 = .ok (.iload_n 1, 1) := dk_27 (dk_at dksX7_need_0 4 rfl rfl)
theorem dX7_need_5 : decode cX7_need 5 = .ok (.if_icmp .eq 8, 3) := dk_159 0 8 (dk_at dksX7_need_0 5 rfl rfl)
theorem dX7_need_8 : decode cX7_need 8 = .ok (.aload_n 0, 1) := dk_42 (dk_at dksX7_need_0 8 rfl rfl)
theorem dX7_need_9 : decode cX7_need 9 = .ok (.invokevirtual 45, 3) := dk_182 0 45 (dk_at dksX7_need_0 9 rfl rfl)
theorem dX7_need_12 : decode cX7_need 12 = .ok (.athrow, 1) := dk_191 (dk_at dksX7_need_0 12 rfl rfl)
theorem dX7_need_13 : decode cX7_need 13 = .ok (.aload_n 0, 1) := dk_42 (dk_at dksX7_need_0 13 rfl rfl)
theorem dX7_need_14 : decode cX7_need 14 = .ok (.dup, 1) := dk_89 (dk_at dksX7_need_0 14 rfl rfl)
theorem dX7_need_15 : decode cX7_need 15 = .ok (.getfield 19, 3) := dk_180 0 19 (dk_at dksX7_need_0 15 rfl rfl)
theorem dX7_need_18 : decode cX7_need 18 = .ok (.iconst 1, 1) := dk_4 (dk_at dksX7_need_0 18 rfl rfl)
theorem dX7_need_19 : decode cX7_need 19 = .ok (.iadd, 1) := dk_96 (dk_at dksX7_need_0 19 rfl rfl)
theorem dX7_need_20 : decode cX7_need 20 = .ok (.putfield 19, 3) := dk_181 0 19 (dk_at dksX7_need_0 20 rfl rfl)
theorem dX7_need_23 : decode cX7_need 23 = .ok (.return_, 1) := dk_177 (dk_at dksX7_need_0 23 rfl rfl)
abbrev cX7_opens : ByteArray := prog_20_method_6_code
def yX7_opens : MethodName := ⟨RX7, "opens", "(I)V"⟩
def dkwX7_opens_1 : List UInt8 := [180, 0, 19, 27, 96, 181, 0, 19, 42, 89, 180, 0, 49, 4, 96, 181, 0, 49, 177]
abbrev dktX7_opens_1 : List UInt8 := dkwX7_opens_1 ++ []
def dkwX7_opens_0 : List UInt8 := [42, 180, 0, 49, 16, 6, 160, 0, 16, 187, 0, 40, 89, 6, 42, 180, 0, 19, 183, 0, 42, 191, 42, 89]
abbrev dktX7_opens_0 : List UInt8 := dkwX7_opens_0 ++ dktX7_opens_1
theorem dksX7_opens_0 : cX7_opens.data.toList.drop 0 = dktX7_opens_0 := by decide +kernel
theorem dksX7_opens_1 : cX7_opens.data.toList.drop 24 = dktX7_opens_1 := dk_seg dksX7_opens_0 24 rfl rfl
theorem dX7_opens_0 : decode cX7_opens 0 = .ok (.aload_n 0, 1) := dk_42 (dk_at dksX7_opens_0 0 rfl rfl)
theorem dX7_opens_1 : decode cX7_opens 1 = .ok (.getfield 49, 3) := dk_180 0 49 (dk_at dksX7_opens_0 1 rfl rfl)
theorem dX7_opens_4 : decode cX7_opens 4 = .ok (.bipush 6, 2) := dk_16 6 (dk_at dksX7_opens_0 4 rfl rfl)
theorem dX7_opens_6 : decode cX7_opens 6 = .ok (.if_icmp .ne 16, 3) := dk_160 0 16 (dk_at dksX7_opens_0 6 rfl rfl)
theorem dX7_opens_9 : decode cX7_opens 9 = .ok (.new 40, 3) := dk_187 0 40 (dk_at dksX7_opens_0 9 rfl rfl)
theorem dX7_opens_12 : decode cX7_opens 12 = .ok (.dup, 1) := dk_89 (dk_at dksX7_opens_0 12 rfl rfl)
theorem dX7_opens_13 : decode cX7_opens 13 = .ok (.iconst 3, 1) := dk_6 (dk_at dksX7_opens_0 13 rfl rfl)
theorem dX7_opens_14 : decode cX7_opens 14 = .ok (.aload_n 0, 1) := dk_42 (dk_at dksX7_opens_0 14 rfl rfl)
theorem dX7_opens_15 : decode cX7_opens 15 = .ok (.getfield 19, 3) := dk_180 0 19 (dk_at dksX7_opens_0 15 rfl rfl)
theorem dX7_opens_18 : decode cX7_opens 18 = .ok (.invokespecial 42, 3) := dk_183 0 42 (dk_at dksX7_opens_0 18 rfl rfl)
theorem dX7_opens_21 : decode cX7_opens 21 = .ok (.athrow, 1) := dk_191 (dk_at dksX7_opens_0 21 rfl rfl)
theorem dX7_opens_22 : decode cX7_opens 22 = .ok (.aload_n 0, 1) := dk_42 (dk_at dksX7_opens_0 22 rfl rfl)
theorem dX7_opens_23 : decode cX7_opens 23 = .ok (.dup, 1) := dk_89 (dk_at dksX7_opens_0 23 rfl rfl)
theorem dX7_opens_24 : decode cX7_opens 24 = .ok (.getfield 19, 3) := dk_180 0 19 (dk_at dksX7_opens_1 0 rfl rfl)
theorem dX7_opens_27 : decode cX7_opens 27 = .ok (.iload_n 1, 1) := dk_27 (dk_at dksX7_opens_1 3 rfl rfl)
theorem dX7_opens_28 : decode cX7_opens 28 = .ok (.iadd, 1) := dk_96 (dk_at dksX7_opens_1 4 rfl rfl)
theorem dX7_opens_29 : decode cX7_opens 29 = .ok (.putfield 19, 3) := dk_181 0 19 (dk_at dksX7_opens_1 5 rfl rfl)
theorem dX7_opens_32 : decode cX7_opens 32 = .ok (.aload_n 0, 1) := dk_42 (dk_at dksX7_opens_1 8 rfl rfl)
theorem dX7_opens_33 : decode cX7_opens 33 = .ok (.dup, 1) := dk_89 (dk_at dksX7_opens_1 9 rfl rfl)
theorem dX7_opens_34 : decode cX7_opens 34 = .ok (.getfield 49, 3) := dk_180 0 49 (dk_at dksX7_opens_1 10 rfl rfl)
theorem dX7_opens_37 : decode cX7_opens 37 = .ok (.iconst 1, 1) := dk_4 (dk_at dksX7_opens_1 13 rfl rfl)
theorem dX7_opens_38 : decode cX7_opens 38 = .ok (.iadd, 1) := dk_96 (dk_at dksX7_opens_1 14 rfl rfl)
theorem dX7_opens_39 : decode cX7_opens 39 = .ok (.putfield 49, 3) := dk_181 0 49 (dk_at dksX7_opens_1 15 rfl rfl)
theorem dX7_opens_42 : decode cX7_opens 42 = .ok (.return_, 1) := dk_177 (dk_at dksX7_opens_1 18 rfl rfl)
theorem q125 : (Jvm.Cond.initialized "VowelChoir$Reader") ∈ lw_all := lw_g (lw_at lw_m1 27 rfl) rfl
theorem q942 : (Jvm.Cond.instanceMethod ({ cls := "VowelChoir$Reader", name := "<init>", desc := "([BI)V" } : Jvm.MethodName)) ∈ lw_all := lw_g (lw_at lw_m4 124 rfl) rfl
theorem q943 : (Jvm.Cond.code ({ cls := "VowelChoir$Reader", name := "<init>", desc := "([BI)V" } : Jvm.MethodName) prog_20_method_1_code (3 : Nat) (Option.none : Option Jvm.ClassFile.FieldType)) ∈ lw_all := lw_g (lw_at lw_m4 125 rfl) rfl
theorem q944 : (Jvm.Cond.methodLink "VowelChoir$Reader" (3 : Nat) ({ cls := "java/lang/Object", name := "<init>", desc := "()V" } : Jvm.MethodName)) ∈ lw_all := lw_g (lw_at lw_m4 126 rfl) rfl
theorem q948 : (Jvm.Cond.fieldLink "VowelChoir$Reader" (9 : Nat) "VowelChoir$Reader" "text" "[B") ∈ lw_all := lw_g (lw_at lw_m4 130 rfl) rfl
theorem q949 : (Jvm.Cond.fieldLink "VowelChoir$Reader" (15 : Nat) "VowelChoir$Reader" "size" "I") ∈ lw_all := lw_g (lw_at lw_m4 131 rfl) rfl
theorem q958 : (Jvm.Cond.fieldLink "VowelChoir$Reader" (19 : Nat) "VowelChoir$Reader" "next" "I") ∈ lw_all := lw_g (lw_at lw_m4 140 rfl) rfl
theorem q969 : (Jvm.Cond.fieldLink "VowelChoir$Reader" (52 : Nat) "VowelChoir$Reader" "from" "I") ∈ lw_all := lw_g (lw_at lw_m4 151 rfl) rfl
theorem q972 : (Jvm.Cond.fieldLink "VowelChoir$Reader" (49 : Nat) "VowelChoir$Reader" "open" "I") ∈ lw_all := lw_g (lw_at lw_m4 154 rfl) rfl
theorem q978 : (Jvm.Cond.soleField "VowelChoir$Reader" "text") ∈ lw_all := lw_g (lw_at lw_m4 160 rfl) rfl
theorem q980 : (Jvm.Cond.soleField "VowelChoir$Reader" "size") ∈ lw_all := lw_g (lw_at lw_m4 162 rfl) rfl
theorem q982 : (Jvm.Cond.soleField "VowelChoir$Reader" "next") ∈ lw_all := lw_g (lw_at lw_m4 164 rfl) rfl
theorem q984 : (Jvm.Cond.soleField "VowelChoir$Reader" "from") ∈ lw_all := lw_g (lw_at lw_m4 166 rfl) rfl
theorem q986 : (Jvm.Cond.soleField "VowelChoir$Reader" "open") ∈ lw_all := lw_g (lw_at lw_m4 168 rfl) rfl
theorem q994 : (Jvm.Cond.declares ({ cls := "VowelChoir$Reader", name := "sign", desc := "()I" } : Jvm.MethodName)) ∈ lw_tbl := lw_at lw_m4 176 rfl
theorem q996 : (Jvm.Cond.instanceMethod ({ cls := "VowelChoir$Reader", name := "sign", desc := "()I" } : Jvm.MethodName)) ∈ lw_all := lw_g (lw_at lw_m4 178 rfl) rfl
theorem q997 : (Jvm.Cond.code ({ cls := "VowelChoir$Reader", name := "sign", desc := "()I" } : Jvm.MethodName) prog_20_method_2_code (1 : Nat) (Option.some Jvm.ClassFile.FieldType.int)) ∈ lw_all := lw_g (lw_at lw_m4 179 rfl) rfl
theorem q1000 : (Jvm.Cond.declares ({ cls := "VowelChoir$Reader", name := "word", desc := "()Ljava/lang/String;" } : Jvm.MethodName)) ∈ lw_tbl := lw_at lw_m4 182 rfl
theorem q1002 : (Jvm.Cond.instanceMethod ({ cls := "VowelChoir$Reader", name := "word", desc := "()Ljava/lang/String;" } : Jvm.MethodName)) ∈ lw_all := lw_g (lw_at lw_m4 184 rfl) rfl
theorem q1003 : (Jvm.Cond.code ({ cls := "VowelChoir$Reader", name := "word", desc := "()Ljava/lang/String;" } : Jvm.MethodName) prog_20_method_3_code (3 : Nat) (Option.some (Jvm.ClassFile.FieldType.object "java/lang/String"))) ∈ lw_all := lw_g (lw_at lw_m4 185 rfl) rfl
theorem q1004 : (Jvm.Cond.methodLink "VowelChoir$Reader" (22 : Nat) ({ cls := "VowelChoir$Reader", name := "sign", desc := "()I" } : Jvm.MethodName)) ∈ lw_all := lw_g (lw_at lw_m4 186 rfl) rfl
theorem q1005 : (Jvm.Cond.classLink "VowelChoir$Reader" (26 : Nat) "java/lang/StringBuilder") ∈ lw_all := lw_g (lw_at lw_m4 187 rfl) rfl
theorem q1006 : (Jvm.Cond.methodLink "VowelChoir$Reader" (28 : Nat) ({ cls := "java/lang/StringBuilder", name := "<init>", desc := "()V" } : Jvm.MethodName)) ∈ lw_all := lw_g (lw_at lw_m4 188 rfl) rfl
theorem q1007 : (Jvm.Cond.methodLink "VowelChoir$Reader" (29 : Nat) ({ cls := "java/lang/StringBuilder", name := "length", desc := "()I" } : Jvm.MethodName)) ∈ lw_all := lw_g (lw_at lw_m4 189 rfl) rfl
theorem q1008 : (Jvm.Cond.methodLink "VowelChoir$Reader" (32 : Nat) ({ cls := "java/lang/StringBuilder", name := "append", desc := "(C)Ljava/lang/StringBuilder;" } : Jvm.MethodName)) ∈ lw_all := lw_g (lw_at lw_m4 190 rfl) rfl
theorem q1028 : (Jvm.Cond.methodLink "VowelChoir$Reader" (36 : Nat) ({ cls := "java/lang/StringBuilder", name := "toString", desc := "()Ljava/lang/String;" } : Jvm.MethodName)) ∈ lw_all := lw_g (lw_at lw_m4 210 rfl) rfl
theorem q1108 : (Jvm.Cond.declares ({ cls := "VowelChoir$Reader", name := "wrong", desc := "()LVowelChoir$Wrong;" } : Jvm.MethodName)) ∈ lw_tbl := lw_at lw_m5 50 rfl
theorem q1110 : (Jvm.Cond.instanceMethod ({ cls := "VowelChoir$Reader", name := "wrong", desc := "()LVowelChoir$Wrong;" } : Jvm.MethodName)) ∈ lw_all := lw_g (lw_at lw_m5 52 rfl) rfl
theorem q1111 : (Jvm.Cond.code ({ cls := "VowelChoir$Reader", name := "wrong", desc := "()LVowelChoir$Wrong;" } : Jvm.MethodName) prog_20_method_4_code (1 : Nat) (Option.some (Jvm.ClassFile.FieldType.object "VowelChoir$Wrong"))) ∈ lw_all := lw_g (lw_at lw_m5 53 rfl) rfl
theorem q1112 : (Jvm.Cond.classLink "VowelChoir$Reader" (40 : Nat) "VowelChoir$Wrong") ∈ lw_all := lw_g (lw_at lw_m5 54 rfl) rfl
theorem q1121 : (Jvm.Cond.methodLink "VowelChoir$Reader" (42 : Nat) ({ cls := "VowelChoir$Wrong", name := "<init>", desc := "(II)V" } : Jvm.MethodName)) ∈ lw_all := lw_g (lw_at lw_m5 63 rfl) rfl
theorem q1150 : (Jvm.Cond.declares ({ cls := "VowelChoir$Reader", name := "number", desc := "(II)I" } : Jvm.MethodName)) ∈ lw_tbl := lw_at lw_m5 92 rfl
theorem q1152 : (Jvm.Cond.instanceMethod ({ cls := "VowelChoir$Reader", name := "number", desc := "(II)I" } : Jvm.MethodName)) ∈ lw_all := lw_g (lw_at lw_m5 94 rfl) rfl
theorem q1153 : (Jvm.Cond.code ({ cls := "VowelChoir$Reader", name := "number", desc := "(II)I" } : Jvm.MethodName) prog_20_method_7_code (5 : Nat) (Option.some Jvm.ClassFile.FieldType.int)) ∈ lw_all := lw_g (lw_at lw_m5 95 rfl) rfl
theorem q1154 : (Jvm.Cond.methodLink "VowelChoir$Reader" (45 : Nat) ({ cls := "VowelChoir$Reader", name := "wrong", desc := "()LVowelChoir$Wrong;" } : Jvm.MethodName)) ∈ lw_all := lw_g (lw_at lw_m5 96 rfl) rfl
theorem q1155 : (Jvm.Cond.constant "VowelChoir$Reader" (55 : Nat) (100000 : Int32)) ∈ lw_all := lw_g (lw_at lw_m5 97 rfl) rfl
theorem q1156 : (Jvm.Cond.methodLink "VowelChoir$Reader" (56 : Nat) ({ cls := "java/lang/Math", name := "min", desc := "(II)I" } : Jvm.MethodName)) ∈ lw_all := lw_g (lw_at lw_m5 98 rfl) rfl
theorem q1279 : (Jvm.Cond.declares ({ cls := "VowelChoir$Reader", name := "need", desc := "(I)V" } : Jvm.MethodName)) ∈ lw_tbl := lw_at lw_m5 221 rfl
theorem q1281 : (Jvm.Cond.instanceMethod ({ cls := "VowelChoir$Reader", name := "need", desc := "(I)V" } : Jvm.MethodName)) ∈ lw_all := lw_g (lw_at lw_m5 223 rfl) rfl
theorem q1282 : (Jvm.Cond.code ({ cls := "VowelChoir$Reader", name := "need", desc := "(I)V" } : Jvm.MethodName) prog_20_method_5_code (2 : Nat) (Option.none : Option Jvm.ClassFile.FieldType)) ∈ lw_all := lw_g (lw_at lw_m5 224 rfl) rfl
theorem q1327 : (Jvm.Cond.declares ({ cls := "VowelChoir$Reader", name := "opens", desc := "(I)V" } : Jvm.MethodName)) ∈ lw_tbl := lw_at lw_m6 29 rfl
theorem q1329 : (Jvm.Cond.instanceMethod ({ cls := "VowelChoir$Reader", name := "opens", desc := "(I)V" } : Jvm.MethodName)) ∈ lw_all := lw_g (lw_at lw_m6 31 rfl) rfl
theorem q1330 : (Jvm.Cond.code ({ cls := "VowelChoir$Reader", name := "opens", desc := "(I)V" } : Jvm.MethodName) prog_20_method_6_code (2 : Nat) (Option.none : Option Jvm.ClassFile.FieldType)) ∈ lw_all := lw_g (lw_at lw_m6 32 rfl) rfl
theorem q2615 : (Jvm.Cond.sameMethod "VowelChoir$Reader" "VowelChoir$Reader" "sign" "()I") ∈ lw_all := lw_g (lw_at lw_m11 117 rfl) rfl
theorem q2622 : (Jvm.Cond.sameMethod "VowelChoir$Reader" "VowelChoir$Reader" "wrong" "()LVowelChoir$Wrong;") ∈ lw_all := lw_g (lw_at lw_m11 124 rfl) rfl
/-! VowelChoir$ChoirReader -/
set_option maxRecDepth 100000
def RX8 : String := "VowelChoir$ChoirReader"
def TX8 : u_T := fun k => match k with
  | 0 => ("VowelChoir$Reader", "text", "[B", true)
  | 1 => ("VowelChoir$Reader", "size", "I", true)
  | 2 => ("VowelChoir$Reader", "next", "I", false)
  | 3 => ("VowelChoir$Reader", "from", "I", false)
  | 4 => ("VowelChoir$Reader", "open", "I", false)
  | _ => ("VowelChoir$ChoirReader", "t", "LVowelChoir$Told;", true)
def tyX8 : Nat → FieldType := fun k => match k with
  | 0 => .array .byte
  | 1 => .int
  | 2 => .int
  | 3 => .int
  | 4 => .int
  | _ => .object "VowelChoir$Told"
abbrev wsX80 : List Cond := u_ws RX8 TX8 6
theorem nmX8 : ∀ a, a < 6 → ∀ b, b < 6 → a ≠ b → (TX8 a).2.1 ≠ (TX8 b).2.1 := by decide +kernel
theorem tyX8_ok : ∀ k, k < 6 → parseFieldDescriptor (TX8 k).2.2.1 = some (tyX8 k) := by decide +kernel
abbrev cX8_init : ByteArray := prog_7_method_1_code
def yX8_init : MethodName := ⟨RX8, "<init>", "([BI)V"⟩
def dkwX8_init_0 : List UInt8 := [42, 43, 28, 183, 0, 3, 42, 187, 0, 9, 89, 183, 0, 11, 181, 0, 14, 177]
abbrev dktX8_init_0 : List UInt8 := dkwX8_init_0 ++ []
theorem dksX8_init_0 : cX8_init.data.toList.drop 0 = dktX8_init_0 := by decide +kernel
theorem dX8_init_0 : decode cX8_init 0 = .ok (.aload_n 0, 1) := dk_42 (dk_at dksX8_init_0 0 rfl rfl)
theorem dX8_init_1 : decode cX8_init 1 = .ok (.aload_n 1, 1) := dk_43 (dk_at dksX8_init_0 1 rfl rfl)
theorem dX8_init_2 : decode cX8_init 2 = .ok (.iload_n 2, 1) := dk_28 (dk_at dksX8_init_0 2 rfl rfl)
theorem dX8_init_3 : decode cX8_init 3 = .ok (.invokespecial 3, 3) := dk_183 0 3 (dk_at dksX8_init_0 3 rfl rfl)
theorem dX8_init_6 : decode cX8_init 6 = .ok (.aload_n 0, 1) := dk_42 (dk_at dksX8_init_0 6 rfl rfl)
theorem dX8_init_7 : decode cX8_init 7 = .ok (.new 9, 3) := dk_187 0 9 (dk_at dksX8_init_0 7 rfl rfl)
theorem dX8_init_10 : decode cX8_init 10 = .ok (.dup, 1) := dk_89 (dk_at dksX8_init_0 10 rfl rfl)
theorem dX8_init_11 : decode cX8_init 11 = .ok (.invokespecial 11, 3) := dk_183 0 11 (dk_at dksX8_init_0 11 rfl rfl)
theorem dX8_init_14 : decode cX8_init 14 = .ok (.putfield 14, 3) := dk_181 0 14 (dk_at dksX8_init_0 14 rfl rfl)
theorem dX8_init_17 : decode cX8_init 17 = .ok (.return_, 1) := dk_177 (dk_at dksX8_init_0 17 rfl rfl)
abbrev cX8_reads : ByteArray := prog_7_method_2_code
def yX8_reads : MethodName := ⟨RX8, "reads", "()LVowelChoir$Told;"⟩
def dkwX8_reads_2 : List UInt8 := [167, 255, 213, 42, 180, 0, 14, 176]
abbrev dktX8_reads_2 : List UInt8 := dkwX8_reads_2 ++ []
def dkwX8_reads_1 : List UInt8 := [42, 16, 59, 182, 0, 39, 42, 180, 0, 14, 89, 180, 0, 43, 4, 96, 181, 0, 43, 42, 182, 0, 20, 87]
abbrev dktX8_reads_1 : List UInt8 := dkwX8_reads_1 ++ dktX8_reads_2
def dkwX8_reads_0 : List UInt8 := [42, 182, 0, 20, 87, 42, 180, 0, 24, 42, 180, 0, 28, 162, 0, 38, 42, 42, 182, 0, 31, 182, 0, 35]
abbrev dktX8_reads_0 : List UInt8 := dkwX8_reads_0 ++ dktX8_reads_1
theorem dksX8_reads_0 : cX8_reads.data.toList.drop 0 = dktX8_reads_0 := by decide +kernel
theorem dksX8_reads_1 : cX8_reads.data.toList.drop 24 = dktX8_reads_1 := dk_seg dksX8_reads_0 24 rfl rfl
theorem dksX8_reads_2 : cX8_reads.data.toList.drop 48 = dktX8_reads_2 := dk_seg dksX8_reads_1 24 rfl rfl
theorem dX8_reads_0 : decode cX8_reads 0 = .ok (.aload_n 0, 1) := dk_42 (dk_at dksX8_reads_0 0 rfl rfl)
theorem dX8_reads_1 : decode cX8_reads 1 = .ok (.invokevirtual 20, 3) := dk_182 0 20 (dk_at dksX8_reads_0 1 rfl rfl)
theorem dX8_reads_4 : decode cX8_reads 4 = .ok (.pop, 1) := dk_87 (dk_at dksX8_reads_0 4 rfl rfl)
theorem dX8_reads_5 : decode cX8_reads 5 = .ok (.aload_n 0, 1) := dk_42 (dk_at dksX8_reads_0 5 rfl rfl)
theorem dX8_reads_6 : decode cX8_reads 6 = .ok (.getfield 24, 3) := dk_180 0 24 (dk_at dksX8_reads_0 6 rfl rfl)
theorem dX8_reads_9 : decode cX8_reads 9 = .ok (.aload_n 0, 1) := dk_42 (dk_at dksX8_reads_0 9 rfl rfl)
theorem dX8_reads_10 : decode cX8_reads 10 = .ok (.getfield 28, 3) := dk_180 0 28 (dk_at dksX8_reads_0 10 rfl rfl)
theorem dX8_reads_13 : decode cX8_reads 13 = .ok (.if_icmp .ge 38, 3) := dk_162 0 38 (dk_at dksX8_reads_0 13 rfl rfl)
theorem dX8_reads_16 : decode cX8_reads 16 = .ok (.aload_n 0, 1) := dk_42 (dk_at dksX8_reads_0 16 rfl rfl)
theorem dX8_reads_17 : decode cX8_reads 17 = .ok (.aload_n 0, 1) := dk_42 (dk_at dksX8_reads_0 17 rfl rfl)
theorem dX8_reads_18 : decode cX8_reads 18 = .ok (.invokevirtual 31, 3) := dk_182 0 31 (dk_at dksX8_reads_0 18 rfl rfl)
theorem dX8_reads_21 : decode cX8_reads 21 = .ok (.invokevirtual 35, 3) := dk_182 0 35 (dk_at dksX8_reads_0 21 rfl rfl)
theorem dX8_reads_24 : decode cX8_reads 24 = .ok (.aload_n 0, 1) := dk_42 (dk_at dksX8_reads_1 0 rfl rfl)
theorem dX8_reads_25 : decode cX8_reads 25 = .ok (.bipush 59, 2) := dk_16 59 (dk_at dksX8_reads_1 1 rfl rfl)
theorem dX8_reads_27 : decode cX8_reads 27 = .ok (.invokevirtual 39, 3) := dk_182 0 39 (dk_at dksX8_reads_1 3 rfl rfl)
theorem dX8_reads_30 : decode cX8_reads 30 = .ok (.aload_n 0, 1) := dk_42 (dk_at dksX8_reads_1 6 rfl rfl)
theorem dX8_reads_31 : decode cX8_reads 31 = .ok (.getfield 14, 3) := dk_180 0 14 (dk_at dksX8_reads_1 7 rfl rfl)
theorem dX8_reads_34 : decode cX8_reads 34 = .ok (.dup, 1) := dk_89 (dk_at dksX8_reads_1 10 rfl rfl)
theorem dX8_reads_35 : decode cX8_reads 35 = .ok (.getfield 43, 3) := dk_180 0 43 (dk_at dksX8_reads_1 11 rfl rfl)
theorem dX8_reads_38 : decode cX8_reads 38 = .ok (.iconst 1, 1) := dk_4 (dk_at dksX8_reads_1 14 rfl rfl)
theorem dX8_reads_39 : decode cX8_reads 39 = .ok (.iadd, 1) := dk_96 (dk_at dksX8_reads_1 15 rfl rfl)
theorem dX8_reads_40 : decode cX8_reads 40 = .ok (.putfield 43, 3) := dk_181 0 43 (dk_at dksX8_reads_1 16 rfl rfl)
theorem dX8_reads_43 : decode cX8_reads 43 = .ok (.aload_n 0, 1) := dk_42 (dk_at dksX8_reads_1 19 rfl rfl)
theorem dX8_reads_44 : decode cX8_reads 44 = .ok (.invokevirtual 20, 3) := dk_182 0 20 (dk_at dksX8_reads_1 20 rfl rfl)
theorem dX8_reads_47 : decode cX8_reads 47 = .ok (.pop, 1) := dk_87 (dk_at dksX8_reads_1 23 rfl rfl)
theorem dX8_reads_48 : decode cX8_reads 48 = .ok (.goto (-43), 3) := dk_167 255 213 (dk_at dksX8_reads_2 0 rfl rfl)
theorem dX8_reads_51 : decode cX8_reads 51 = .ok (.aload_n 0, 1) := dk_42 (dk_at dksX8_reads_2 3 rfl rfl)
theorem dX8_reads_52 : decode cX8_reads 52 = .ok (.getfield 14, 3) := dk_180 0 14 (dk_at dksX8_reads_2 4 rfl rfl)
theorem dX8_reads_55 : decode cX8_reads 55 = .ok (.areturn, 1) := dk_176 (dk_at dksX8_reads_2 7 rfl rfl)
abbrev cX8_clause : ByteArray := prog_7_method_4_code
def yX8_clause : MethodName := ⟨RX8, "clause", "(Ljava/lang/String;)V"⟩
def dkwX8_clause_19 : List UInt8 := [181, 0, 111, 177]
abbrev dktX8_clause_19 : List UInt8 := dkwX8_clause_19 ++ []
def dkwX8_clause_18 : List UInt8 := [182, 0, 93, 183, 0, 110, 182, 0, 102, 87, 177, 42, 180, 0, 14, 42, 3, 16, 30, 182, 0, 93]
abbrev dktX8_clause_18 : List UInt8 := dkwX8_clause_18 ++ dktX8_clause_19
def dkwX8_clause_17 : List UInt8 := [100, 182, 0, 93, 54, 4, 42, 180, 0, 14, 180, 0, 72, 187, 0, 108, 89, 21, 4, 42, 3, 8]
abbrev dktX8_clause_17 : List UInt8 := dkwX8_clause_17 ++ dktX8_clause_18
def dkwX8_clause_16 : List UInt8 := [182, 0, 93, 183, 0, 107, 182, 0, 102, 87, 177, 42, 3, 42, 180, 0, 14, 180, 0, 69, 182, 0, 65, 4]
abbrev dktX8_clause_16 : List UInt8 := dkwX8_clause_16 ++ dktX8_clause_17
def dkwX8_clause_15 : List UInt8 := [3, 8, 182, 0, 93, 54, 4, 42, 180, 0, 14, 180, 0, 69, 187, 0, 105, 89, 21, 4, 42, 4, 16, 9]
abbrev dktX8_clause_15 : List UInt8 := dkwX8_clause_15 ++ dktX8_clause_16
def dkwX8_clause_14 : List UInt8 := [187, 0, 97, 89, 21, 4, 21, 5, 42, 4, 16, 30, 182, 0, 93, 183, 0, 99, 182, 0, 102, 87, 177, 42]
abbrev dktX8_clause_14 : List UInt8 := dkwX8_clause_14 ++ dktX8_clause_15
def dkwX8_clause_13 : List UInt8 := [42, 3, 8, 182, 0, 93, 54, 4, 42, 3, 16, 60, 182, 0, 93, 54, 5, 42, 180, 0, 14, 180, 0, 61]
abbrev dktX8_clause_13 : List UInt8 := dkwX8_clause_13 ++ dktX8_clause_14
def dkwX8_clause_12 : List UInt8 := [170, 0, 0, 0, 0, 0, 0, 157, 0, 0, 0, 0, 0, 0, 0, 2, 0, 0, 0, 28, 0, 0, 0, 75, 0, 0, 0, 111]
abbrev dktX8_clause_12 : List UInt8 := dkwX8_clause_12 ++ dktX8_clause_13
def dkwX8_clause_11 : List UInt8 := [62, 167, 0, 14, 44, 18, 59, 182, 0, 53, 153, 0, 5, 5, 62, 29]
abbrev dktX8_clause_11 : List UInt8 := dkwX8_clause_11 ++ dktX8_clause_12
def dkwX8_clause_10 : List UInt8 := [44, 18, 51, 182, 0, 53, 153, 0, 33, 3, 62, 167, 0, 28, 44, 18, 57, 182, 0, 53, 153, 0, 19, 4]
abbrev dktX8_clause_10 : List UInt8 := dkwX8_clause_10 ++ dktX8_clause_11
def dkwX8_clause_9 : List UInt8 := [171, 0, 0, 0, 0, 73, 0, 0, 0, 3, 202, 56, 131, 124, 0, 0, 0, 34, 0, 50, 175, 151, 0, 0, 0, 62, 0, 51, 175, 242, 0, 0, 0, 48]
abbrev dktX8_clause_9 : List UInt8 := dkwX8_clause_9 ++ dktX8_clause_10
def dkwX8_clause_8 : List UInt8 := [44, 182, 0, 46]
abbrev dktX8_clause_8 : List UInt8 := dkwX8_clause_8 ++ dktX8_clause_9
def dkwX8_clause_7 : List UInt8 := [180, 0, 24, 183, 0, 87, 191, 42, 89, 180, 0, 24, 43, 182, 0, 90, 96, 181, 0, 24, 43, 77, 2, 62]
abbrev dktX8_clause_7 : List UInt8 := dkwX8_clause_7 ++ dktX8_clause_8
def dkwX8_clause_6 : List UInt8 := [167, 0, 8, 42, 182, 0, 77, 191, 42, 43, 182, 0, 81, 153, 0, 16, 187, 0, 85, 89, 6, 42]
abbrev dktX8_clause_6 : List UInt8 := dkwX8_clause_6 ++ dktX8_clause_7
def dkwX8_clause_5 : List UInt8 := [170, 0, 0, 0, 0, 33, 0, 0, 0, 0, 0, 0, 0, 3, 0, 0, 0, 30, 0, 0, 0, 30, 0, 0, 0, 30, 0, 0, 0, 30]
abbrev dktX8_clause_5 : List UInt8 := dkwX8_clause_5 ++ dktX8_clause_6
def dkwX8_clause_4 : List UInt8 := [153, 0, 5, 6, 62, 29]
abbrev dktX8_clause_4 : List UInt8 := dkwX8_clause_4 ++ dktX8_clause_5
def dkwX8_clause_3 : List UInt8 := [62, 167, 0, 28, 44, 18, 59, 182, 0, 53, 153, 0, 19, 5, 62, 167, 0, 14, 44, 18, 75, 182, 0, 53]
abbrev dktX8_clause_3 : List UInt8 := dkwX8_clause_3 ++ dktX8_clause_4
def dkwX8_clause_2 : List UInt8 := [44, 18, 51, 182, 0, 53, 153, 0, 47, 3, 62, 167, 0, 42, 44, 18, 57, 182, 0, 53, 153, 0, 33, 4]
abbrev dktX8_clause_2 : List UInt8 := dkwX8_clause_2 ++ dktX8_clause_3
def dkwX8_clause_1 : List UInt8 := [171, 0, 0, 0, 0, 0, 0, 97, 0, 0, 0, 4, 202, 56, 131, 124, 0, 0, 0, 44, 0, 50, 175, 151, 0, 0, 0, 72, 0, 51, 175, 242, 0, 0, 0, 58, 0, 53, 91, 212, 0, 0, 0, 86]
abbrev dktX8_clause_1 : List UInt8 := dkwX8_clause_1 ++ dktX8_clause_2
def dkwX8_clause_0 : List UInt8 := [43, 77, 2, 62, 44, 182, 0, 46]
abbrev dktX8_clause_0 : List UInt8 := dkwX8_clause_0 ++ dktX8_clause_1
theorem dksX8_clause_0 : cX8_clause.data.toList.drop 0 = dktX8_clause_0 := by decide +kernel
theorem dksX8_clause_1 : cX8_clause.data.toList.drop 8 = dktX8_clause_1 := dk_seg dksX8_clause_0 8 rfl rfl
theorem dksX8_clause_2 : cX8_clause.data.toList.drop 52 = dktX8_clause_2 := dk_seg dksX8_clause_1 44 rfl rfl
theorem dksX8_clause_3 : cX8_clause.data.toList.drop 76 = dktX8_clause_3 := dk_seg dksX8_clause_2 24 rfl rfl
theorem dksX8_clause_4 : cX8_clause.data.toList.drop 100 = dktX8_clause_4 := dk_seg dksX8_clause_3 24 rfl rfl
theorem dksX8_clause_5 : cX8_clause.data.toList.drop 106 = dktX8_clause_5 := dk_seg dksX8_clause_4 6 rfl rfl
theorem dksX8_clause_6 : cX8_clause.data.toList.drop 136 = dktX8_clause_6 := dk_seg dksX8_clause_5 30 rfl rfl
theorem dksX8_clause_7 : cX8_clause.data.toList.drop 158 = dktX8_clause_7 := dk_seg dksX8_clause_6 22 rfl rfl
theorem dksX8_clause_8 : cX8_clause.data.toList.drop 182 = dktX8_clause_8 := dk_seg dksX8_clause_7 24 rfl rfl
theorem dksX8_clause_9 : cX8_clause.data.toList.drop 186 = dktX8_clause_9 := dk_seg dksX8_clause_8 4 rfl rfl
theorem dksX8_clause_10 : cX8_clause.data.toList.drop 220 = dktX8_clause_10 := dk_seg dksX8_clause_9 34 rfl rfl
theorem dksX8_clause_11 : cX8_clause.data.toList.drop 244 = dktX8_clause_11 := dk_seg dksX8_clause_10 24 rfl rfl
theorem dksX8_clause_12 : cX8_clause.data.toList.drop 260 = dktX8_clause_12 := dk_seg dksX8_clause_11 16 rfl rfl
theorem dksX8_clause_13 : cX8_clause.data.toList.drop 288 = dktX8_clause_13 := dk_seg dksX8_clause_12 28 rfl rfl
theorem dksX8_clause_14 : cX8_clause.data.toList.drop 312 = dktX8_clause_14 := dk_seg dksX8_clause_13 24 rfl rfl
theorem dksX8_clause_15 : cX8_clause.data.toList.drop 336 = dktX8_clause_15 := dk_seg dksX8_clause_14 24 rfl rfl
theorem dksX8_clause_16 : cX8_clause.data.toList.drop 360 = dktX8_clause_16 := dk_seg dksX8_clause_15 24 rfl rfl
theorem dksX8_clause_17 : cX8_clause.data.toList.drop 384 = dktX8_clause_17 := dk_seg dksX8_clause_16 24 rfl rfl
theorem dksX8_clause_18 : cX8_clause.data.toList.drop 406 = dktX8_clause_18 := dk_seg dksX8_clause_17 22 rfl rfl
theorem dksX8_clause_19 : cX8_clause.data.toList.drop 428 = dktX8_clause_19 := dk_seg dksX8_clause_18 22 rfl rfl
theorem dX8_clause_0 : decode cX8_clause 0 = .ok (.aload_n 1, 1) := dk_43 (dk_at dksX8_clause_0 0 rfl rfl)
theorem dX8_clause_1 : decode cX8_clause 1 = .ok (.astore_n 2, 1) := dk_77 (dk_at dksX8_clause_0 1 rfl rfl)
theorem dX8_clause_2 : decode cX8_clause 2 = .ok (.iconst (-1), 1) := dk_2 (dk_at dksX8_clause_0 2 rfl rfl)
theorem dX8_clause_3 : decode cX8_clause 3 = .ok (.istore_n 3, 1) := dk_62 (dk_at dksX8_clause_0 3 rfl rfl)
theorem dX8_clause_4 : decode cX8_clause 4 = .ok (.aload_n 2, 1) := dk_44 (dk_at dksX8_clause_0 4 rfl rfl)
theorem dX8_clause_5 : decode cX8_clause 5 = .ok (.invokevirtual 46, 3) := dk_182 0 46 (dk_at dksX8_clause_0 5 rfl rfl)
theorem dX8_clause_8 : decode cX8_clause 8 = .ok (.lookupswitch 97 #[(-902265988, 44), (3321751, 72), (3387378, 58), (3496916, 86)], 44) := by decide +kernel
theorem dX8_clause_52 : decode cX8_clause 52 = .ok (.aload_n 2, 1) := dk_44 (dk_at dksX8_clause_2 0 rfl rfl)
theorem dX8_clause_53 : decode cX8_clause 53 = .ok (.ldc 51, 2) := dk_18 51 (dk_at dksX8_clause_2 1 rfl rfl)
theorem dX8_clause_55 : decode cX8_clause 55 = .ok (.invokevirtual 53, 3) := dk_182 0 53 (dk_at dksX8_clause_2 3 rfl rfl)
theorem dX8_clause_58 : decode cX8_clause 58 = .ok (.ifCond .eq 47, 3) := dk_153 0 47 (dk_at dksX8_clause_2 6 rfl rfl)
theorem dX8_clause_61 : decode cX8_clause 61 = .ok (.iconst 0, 1) := dk_3 (dk_at dksX8_clause_2 9 rfl rfl)
theorem dX8_clause_62 : decode cX8_clause 62 = .ok (.istore_n 3, 1) := dk_62 (dk_at dksX8_clause_2 10 rfl rfl)
theorem dX8_clause_63 : decode cX8_clause 63 = .ok (.goto 42, 3) := dk_167 0 42 (dk_at dksX8_clause_2 11 rfl rfl)
theorem dX8_clause_66 : decode cX8_clause 66 = .ok (.aload_n 2, 1) := dk_44 (dk_at dksX8_clause_2 14 rfl rfl)
theorem dX8_clause_67 : decode cX8_clause 67 = .ok (.ldc 57, 2) := dk_18 57 (dk_at dksX8_clause_2 15 rfl rfl)
theorem dX8_clause_69 : decode cX8_clause 69 = .ok (.invokevirtual 53, 3) := dk_182 0 53 (dk_at dksX8_clause_2 17 rfl rfl)
theorem dX8_clause_72 : decode cX8_clause 72 = .ok (.ifCond .eq 33, 3) := dk_153 0 33 (dk_at dksX8_clause_2 20 rfl rfl)
theorem dX8_clause_75 : decode cX8_clause 75 = .ok (.iconst 1, 1) := dk_4 (dk_at dksX8_clause_2 23 rfl rfl)
theorem dX8_clause_76 : decode cX8_clause 76 = .ok (.istore_n 3, 1) := dk_62 (dk_at dksX8_clause_3 0 rfl rfl)
theorem dX8_clause_77 : decode cX8_clause 77 = .ok (.goto 28, 3) := dk_167 0 28 (dk_at dksX8_clause_3 1 rfl rfl)
theorem dX8_clause_80 : decode cX8_clause 80 = .ok (.aload_n 2, 1) := dk_44 (dk_at dksX8_clause_3 4 rfl rfl)
theorem dX8_clause_81 : decode cX8_clause 81 = .ok (.ldc 59, 2) := dk_18 59 (dk_at dksX8_clause_3 5 rfl rfl)
theorem dX8_clause_83 : decode cX8_clause 83 = .ok (.invokevirtual 53, 3) := dk_182 0 53 (dk_at dksX8_clause_3 7 rfl rfl)
theorem dX8_clause_86 : decode cX8_clause 86 = .ok (.ifCond .eq 19, 3) := dk_153 0 19 (dk_at dksX8_clause_3 10 rfl rfl)
theorem dX8_clause_89 : decode cX8_clause 89 = .ok (.iconst 2, 1) := dk_5 (dk_at dksX8_clause_3 13 rfl rfl)
theorem dX8_clause_90 : decode cX8_clause 90 = .ok (.istore_n 3, 1) := dk_62 (dk_at dksX8_clause_3 14 rfl rfl)
theorem dX8_clause_91 : decode cX8_clause 91 = .ok (.goto 14, 3) := dk_167 0 14 (dk_at dksX8_clause_3 15 rfl rfl)
theorem dX8_clause_94 : decode cX8_clause 94 = .ok (.aload_n 2, 1) := dk_44 (dk_at dksX8_clause_3 18 rfl rfl)
theorem dX8_clause_95 : decode cX8_clause 95 = .ok (.ldc 75, 2) := dk_18 75 (dk_at dksX8_clause_3 19 rfl rfl)
theorem dX8_clause_97 : decode cX8_clause 97 = .ok (.invokevirtual 53, 3) := dk_182 0 53 (dk_at dksX8_clause_3 21 rfl rfl)
theorem dX8_clause_100 : decode cX8_clause 100 = .ok (.ifCond .eq 5, 3) := dk_153 0 5 (dk_at dksX8_clause_4 0 rfl rfl)
theorem dX8_clause_103 : decode cX8_clause 103 = .ok (.iconst 3, 1) := dk_6 (dk_at dksX8_clause_4 3 rfl rfl)
theorem dX8_clause_104 : decode cX8_clause 104 = .ok (.istore_n 3, 1) := dk_62 (dk_at dksX8_clause_4 4 rfl rfl)
theorem dX8_clause_105 : decode cX8_clause 105 = .ok (.iload_n 3, 1) := dk_29 (dk_at dksX8_clause_4 5 rfl rfl)
theorem dX8_clause_106 : decode cX8_clause 106 = .ok (.tableswitch 33 0 3 #[30, 30, 30, 30], 30) := by decide +kernel
theorem dX8_clause_136 : decode cX8_clause 136 = .ok (.goto 8, 3) := dk_167 0 8 (dk_at dksX8_clause_6 0 rfl rfl)
theorem dX8_clause_139 : decode cX8_clause 139 = .ok (.aload_n 0, 1) := dk_42 (dk_at dksX8_clause_6 3 rfl rfl)
theorem dX8_clause_140 : decode cX8_clause 140 = .ok (.invokevirtual 77, 3) := dk_182 0 77 (dk_at dksX8_clause_6 4 rfl rfl)
theorem dX8_clause_143 : decode cX8_clause 143 = .ok (.athrow, 1) := dk_191 (dk_at dksX8_clause_6 7 rfl rfl)
theorem dX8_clause_144 : decode cX8_clause 144 = .ok (.aload_n 0, 1) := dk_42 (dk_at dksX8_clause_6 8 rfl rfl)
theorem dX8_clause_145 : decode cX8_clause 145 = .ok (.aload_n 1, 1) := dk_43 (dk_at dksX8_clause_6 9 rfl rfl)
theorem dX8_clause_146 : decode cX8_clause 146 = .ok (.invokevirtual 81, 3) := dk_182 0 81 (dk_at dksX8_clause_6 10 rfl rfl)
theorem dX8_clause_149 : decode cX8_clause 149 = .ok (.ifCond .eq 16, 3) := dk_153 0 16 (dk_at dksX8_clause_6 13 rfl rfl)
theorem dX8_clause_152 : decode cX8_clause 152 = .ok (.new 85, 3) := dk_187 0 85 (dk_at dksX8_clause_6 16 rfl rfl)
theorem dX8_clause_155 : decode cX8_clause 155 = .ok (.dup, 1) := dk_89 (dk_at dksX8_clause_6 19 rfl rfl)
theorem dX8_clause_156 : decode cX8_clause 156 = .ok (.iconst 3, 1) := dk_6 (dk_at dksX8_clause_6 20 rfl rfl)
theorem dX8_clause_157 : decode cX8_clause 157 = .ok (.aload_n 0, 1) := dk_42 (dk_at dksX8_clause_6 21 rfl rfl)
theorem dX8_clause_158 : decode cX8_clause 158 = .ok (.getfield 24, 3) := dk_180 0 24 (dk_at dksX8_clause_7 0 rfl rfl)
theorem dX8_clause_161 : decode cX8_clause 161 = .ok (.invokespecial 87, 3) := dk_183 0 87 (dk_at dksX8_clause_7 3 rfl rfl)
theorem dX8_clause_164 : decode cX8_clause 164 = .ok (.athrow, 1) := dk_191 (dk_at dksX8_clause_7 6 rfl rfl)
theorem dX8_clause_165 : decode cX8_clause 165 = .ok (.aload_n 0, 1) := dk_42 (dk_at dksX8_clause_7 7 rfl rfl)
theorem dX8_clause_166 : decode cX8_clause 166 = .ok (.dup, 1) := dk_89 (dk_at dksX8_clause_7 8 rfl rfl)
theorem dX8_clause_167 : decode cX8_clause 167 = .ok (.getfield 24, 3) := dk_180 0 24 (dk_at dksX8_clause_7 9 rfl rfl)
theorem dX8_clause_170 : decode cX8_clause 170 = .ok (.aload_n 1, 1) := dk_43 (dk_at dksX8_clause_7 12 rfl rfl)
theorem dX8_clause_171 : decode cX8_clause 171 = .ok (.invokevirtual 90, 3) := dk_182 0 90 (dk_at dksX8_clause_7 13 rfl rfl)
theorem dX8_clause_174 : decode cX8_clause 174 = .ok (.iadd, 1) := dk_96 (dk_at dksX8_clause_7 16 rfl rfl)
theorem dX8_clause_175 : decode cX8_clause 175 = .ok (.putfield 24, 3) := dk_181 0 24 (dk_at dksX8_clause_7 17 rfl rfl)
theorem dX8_clause_178 : decode cX8_clause 178 = .ok (.aload_n 1, 1) := dk_43 (dk_at dksX8_clause_7 20 rfl rfl)
theorem dX8_clause_179 : decode cX8_clause 179 = .ok (.astore_n 2, 1) := dk_77 (dk_at dksX8_clause_7 21 rfl rfl)
theorem dX8_clause_180 : decode cX8_clause 180 = .ok (.iconst (-1), 1) := dk_2 (dk_at dksX8_clause_7 22 rfl rfl)
theorem dX8_clause_181 : decode cX8_clause 181 = .ok (.istore_n 3, 1) := dk_62 (dk_at dksX8_clause_7 23 rfl rfl)
theorem dX8_clause_182 : decode cX8_clause 182 = .ok (.aload_n 2, 1) := dk_44 (dk_at dksX8_clause_8 0 rfl rfl)
theorem dX8_clause_183 : decode cX8_clause 183 = .ok (.invokevirtual 46, 3) := dk_182 0 46 (dk_at dksX8_clause_8 1 rfl rfl)
theorem dX8_clause_186 : decode cX8_clause 186 = .ok (.lookupswitch 73 #[(-902265988, 34), (3321751, 62), (3387378, 48)], 34) := by decide +kernel
theorem dX8_clause_220 : decode cX8_clause 220 = .ok (.aload_n 2, 1) := dk_44 (dk_at dksX8_clause_10 0 rfl rfl)
theorem dX8_clause_221 : decode cX8_clause 221 = .ok (.ldc 51, 2) := dk_18 51 (dk_at dksX8_clause_10 1 rfl rfl)
theorem dX8_clause_223 : decode cX8_clause 223 = .ok (.invokevirtual 53, 3) := dk_182 0 53 (dk_at dksX8_clause_10 3 rfl rfl)
theorem dX8_clause_226 : decode cX8_clause 226 = .ok (.ifCond .eq 33, 3) := dk_153 0 33 (dk_at dksX8_clause_10 6 rfl rfl)
theorem dX8_clause_229 : decode cX8_clause 229 = .ok (.iconst 0, 1) := dk_3 (dk_at dksX8_clause_10 9 rfl rfl)
theorem dX8_clause_230 : decode cX8_clause 230 = .ok (.istore_n 3, 1) := dk_62 (dk_at dksX8_clause_10 10 rfl rfl)
theorem dX8_clause_231 : decode cX8_clause 231 = .ok (.goto 28, 3) := dk_167 0 28 (dk_at dksX8_clause_10 11 rfl rfl)
theorem dX8_clause_234 : decode cX8_clause 234 = .ok (.aload_n 2, 1) := dk_44 (dk_at dksX8_clause_10 14 rfl rfl)
theorem dX8_clause_235 : decode cX8_clause 235 = .ok (.ldc 57, 2) := dk_18 57 (dk_at dksX8_clause_10 15 rfl rfl)
theorem dX8_clause_237 : decode cX8_clause 237 = .ok (.invokevirtual 53, 3) := dk_182 0 53 (dk_at dksX8_clause_10 17 rfl rfl)
theorem dX8_clause_240 : decode cX8_clause 240 = .ok (.ifCond .eq 19, 3) := dk_153 0 19 (dk_at dksX8_clause_10 20 rfl rfl)
theorem dX8_clause_243 : decode cX8_clause 243 = .ok (.iconst 1, 1) := dk_4 (dk_at dksX8_clause_10 23 rfl rfl)
theorem dX8_clause_244 : decode cX8_clause 244 = .ok (.istore_n 3, 1) := dk_62 (dk_at dksX8_clause_11 0 rfl rfl)
theorem dX8_clause_245 : decode cX8_clause 245 = .ok (.goto 14, 3) := dk_167 0 14 (dk_at dksX8_clause_11 1 rfl rfl)
theorem dX8_clause_248 : decode cX8_clause 248 = .ok (.aload_n 2, 1) := dk_44 (dk_at dksX8_clause_11 4 rfl rfl)
theorem dX8_clause_249 : decode cX8_clause 249 = .ok (.ldc 59, 2) := dk_18 59 (dk_at dksX8_clause_11 5 rfl rfl)
theorem dX8_clause_251 : decode cX8_clause 251 = .ok (.invokevirtual 53, 3) := dk_182 0 53 (dk_at dksX8_clause_11 7 rfl rfl)
theorem dX8_clause_254 : decode cX8_clause 254 = .ok (.ifCond .eq 5, 3) := dk_153 0 5 (dk_at dksX8_clause_11 10 rfl rfl)
theorem dX8_clause_257 : decode cX8_clause 257 = .ok (.iconst 2, 1) := dk_5 (dk_at dksX8_clause_11 13 rfl rfl)
theorem dX8_clause_258 : decode cX8_clause 258 = .ok (.istore_n 3, 1) := dk_62 (dk_at dksX8_clause_11 14 rfl rfl)
theorem dX8_clause_259 : decode cX8_clause 259 = .ok (.iload_n 3, 1) := dk_29 (dk_at dksX8_clause_11 15 rfl rfl)
theorem dX8_clause_260 : decode cX8_clause 260 = .ok (.tableswitch 157 0 2 #[28, 75, 111], 28) := by decide +kernel
theorem dX8_clause_288 : decode cX8_clause 288 = .ok (.aload_n 0, 1) := dk_42 (dk_at dksX8_clause_13 0 rfl rfl)
theorem dX8_clause_289 : decode cX8_clause 289 = .ok (.iconst 0, 1) := dk_3 (dk_at dksX8_clause_13 1 rfl rfl)
theorem dX8_clause_290 : decode cX8_clause 290 = .ok (.iconst 5, 1) := dk_8 (dk_at dksX8_clause_13 2 rfl rfl)
theorem dX8_clause_291 : decode cX8_clause 291 = .ok (.invokevirtual 93, 3) := dk_182 0 93 (dk_at dksX8_clause_13 3 rfl rfl)
theorem dX8_clause_294 : decode cX8_clause 294 = .ok (.istore 4, 2) := dk_54 4 (dk_at dksX8_clause_13 6 rfl rfl)
theorem dX8_clause_296 : decode cX8_clause 296 = .ok (.aload_n 0, 1) := dk_42 (dk_at dksX8_clause_13 8 rfl rfl)
theorem dX8_clause_297 : decode cX8_clause 297 = .ok (.iconst 0, 1) := dk_3 (dk_at dksX8_clause_13 9 rfl rfl)
theorem dX8_clause_298 : decode cX8_clause 298 = .ok (.bipush 60, 2) := dk_16 60 (dk_at dksX8_clause_13 10 rfl rfl)
theorem dX8_clause_300 : decode cX8_clause 300 = .ok (.invokevirtual 93, 3) := dk_182 0 93 (dk_at dksX8_clause_13 12 rfl rfl)
theorem dX8_clause_303 : decode cX8_clause 303 = .ok (.istore 5, 2) := dk_54 5 (dk_at dksX8_clause_13 15 rfl rfl)
theorem dX8_clause_305 : decode cX8_clause 305 = .ok (.aload_n 0, 1) := dk_42 (dk_at dksX8_clause_13 17 rfl rfl)
theorem dX8_clause_306 : decode cX8_clause 306 = .ok (.getfield 14, 3) := dk_180 0 14 (dk_at dksX8_clause_13 18 rfl rfl)
theorem dX8_clause_309 : decode cX8_clause 309 = .ok (.getfield 61, 3) := dk_180 0 61 (dk_at dksX8_clause_13 21 rfl rfl)
theorem dX8_clause_312 : decode cX8_clause 312 = .ok (.new 97, 3) := dk_187 0 97 (dk_at dksX8_clause_14 0 rfl rfl)
theorem dX8_clause_315 : decode cX8_clause 315 = .ok (.dup, 1) := dk_89 (dk_at dksX8_clause_14 3 rfl rfl)
theorem dX8_clause_316 : decode cX8_clause 316 = .ok (.iload 4, 2) := dk_21 4 (dk_at dksX8_clause_14 4 rfl rfl)
theorem dX8_clause_318 : decode cX8_clause 318 = .ok (.iload 5, 2) := dk_21 5 (dk_at dksX8_clause_14 6 rfl rfl)
theorem dX8_clause_320 : decode cX8_clause 320 = .ok (.aload_n 0, 1) := dk_42 (dk_at dksX8_clause_14 8 rfl rfl)
theorem dX8_clause_321 : decode cX8_clause 321 = .ok (.iconst 1, 1) := dk_4 (dk_at dksX8_clause_14 9 rfl rfl)
theorem dX8_clause_322 : decode cX8_clause 322 = .ok (.bipush 30, 2) := dk_16 30 (dk_at dksX8_clause_14 10 rfl rfl)
theorem dX8_clause_324 : decode cX8_clause 324 = .ok (.invokevirtual 93, 3) := dk_182 0 93 (dk_at dksX8_clause_14 12 rfl rfl)
theorem dX8_clause_327 : decode cX8_clause 327 = .ok (.invokespecial 99, 3) := dk_183 0 99 (dk_at dksX8_clause_14 15 rfl rfl)
theorem dX8_clause_330 : decode cX8_clause 330 = .ok (.invokevirtual 102, 3) := dk_182 0 102 (dk_at dksX8_clause_14 18 rfl rfl)
theorem dX8_clause_333 : decode cX8_clause 333 = .ok (.pop, 1) := dk_87 (dk_at dksX8_clause_14 21 rfl rfl)
theorem dX8_clause_334 : decode cX8_clause 334 = .ok (.return_, 1) := dk_177 (dk_at dksX8_clause_14 22 rfl rfl)
theorem dX8_clause_335 : decode cX8_clause 335 = .ok (.aload_n 0, 1) := dk_42 (dk_at dksX8_clause_14 23 rfl rfl)
theorem dX8_clause_336 : decode cX8_clause 336 = .ok (.iconst 0, 1) := dk_3 (dk_at dksX8_clause_15 0 rfl rfl)
theorem dX8_clause_337 : decode cX8_clause 337 = .ok (.iconst 5, 1) := dk_8 (dk_at dksX8_clause_15 1 rfl rfl)
theorem dX8_clause_338 : decode cX8_clause 338 = .ok (.invokevirtual 93, 3) := dk_182 0 93 (dk_at dksX8_clause_15 2 rfl rfl)
theorem dX8_clause_341 : decode cX8_clause 341 = .ok (.istore 4, 2) := dk_54 4 (dk_at dksX8_clause_15 5 rfl rfl)
theorem dX8_clause_343 : decode cX8_clause 343 = .ok (.aload_n 0, 1) := dk_42 (dk_at dksX8_clause_15 7 rfl rfl)
theorem dX8_clause_344 : decode cX8_clause 344 = .ok (.getfield 14, 3) := dk_180 0 14 (dk_at dksX8_clause_15 8 rfl rfl)
theorem dX8_clause_347 : decode cX8_clause 347 = .ok (.getfield 69, 3) := dk_180 0 69 (dk_at dksX8_clause_15 11 rfl rfl)
theorem dX8_clause_350 : decode cX8_clause 350 = .ok (.new 105, 3) := dk_187 0 105 (dk_at dksX8_clause_15 14 rfl rfl)
theorem dX8_clause_353 : decode cX8_clause 353 = .ok (.dup, 1) := dk_89 (dk_at dksX8_clause_15 17 rfl rfl)
theorem dX8_clause_354 : decode cX8_clause 354 = .ok (.iload 4, 2) := dk_21 4 (dk_at dksX8_clause_15 18 rfl rfl)
theorem dX8_clause_356 : decode cX8_clause 356 = .ok (.aload_n 0, 1) := dk_42 (dk_at dksX8_clause_15 20 rfl rfl)
theorem dX8_clause_357 : decode cX8_clause 357 = .ok (.iconst 1, 1) := dk_4 (dk_at dksX8_clause_15 21 rfl rfl)
theorem dX8_clause_358 : decode cX8_clause 358 = .ok (.bipush 9, 2) := dk_16 9 (dk_at dksX8_clause_15 22 rfl rfl)
theorem dX8_clause_360 : decode cX8_clause 360 = .ok (.invokevirtual 93, 3) := dk_182 0 93 (dk_at dksX8_clause_16 0 rfl rfl)
theorem dX8_clause_363 : decode cX8_clause 363 = .ok (.invokespecial 107, 3) := dk_183 0 107 (dk_at dksX8_clause_16 3 rfl rfl)
theorem dX8_clause_366 : decode cX8_clause 366 = .ok (.invokevirtual 102, 3) := dk_182 0 102 (dk_at dksX8_clause_16 6 rfl rfl)
theorem dX8_clause_369 : decode cX8_clause 369 = .ok (.pop, 1) := dk_87 (dk_at dksX8_clause_16 9 rfl rfl)
theorem dX8_clause_370 : decode cX8_clause 370 = .ok (.return_, 1) := dk_177 (dk_at dksX8_clause_16 10 rfl rfl)
theorem dX8_clause_371 : decode cX8_clause 371 = .ok (.aload_n 0, 1) := dk_42 (dk_at dksX8_clause_16 11 rfl rfl)
theorem dX8_clause_372 : decode cX8_clause 372 = .ok (.iconst 0, 1) := dk_3 (dk_at dksX8_clause_16 12 rfl rfl)
theorem dX8_clause_373 : decode cX8_clause 373 = .ok (.aload_n 0, 1) := dk_42 (dk_at dksX8_clause_16 13 rfl rfl)
theorem dX8_clause_374 : decode cX8_clause 374 = .ok (.getfield 14, 3) := dk_180 0 14 (dk_at dksX8_clause_16 14 rfl rfl)
theorem dX8_clause_377 : decode cX8_clause 377 = .ok (.getfield 69, 3) := dk_180 0 69 (dk_at dksX8_clause_16 17 rfl rfl)
theorem dX8_clause_380 : decode cX8_clause 380 = .ok (.invokevirtual 65, 3) := dk_182 0 65 (dk_at dksX8_clause_16 20 rfl rfl)
theorem dX8_clause_383 : decode cX8_clause 383 = .ok (.iconst 1, 1) := dk_4 (dk_at dksX8_clause_16 23 rfl rfl)
theorem dX8_clause_384 : decode cX8_clause 384 = .ok (.isub, 1) := dk_100 (dk_at dksX8_clause_17 0 rfl rfl)
theorem dX8_clause_385 : decode cX8_clause 385 = .ok (.invokevirtual 93, 3) := dk_182 0 93 (dk_at dksX8_clause_17 1 rfl rfl)
theorem dX8_clause_388 : decode cX8_clause 388 = .ok (.istore 4, 2) := dk_54 4 (dk_at dksX8_clause_17 4 rfl rfl)
theorem dX8_clause_390 : decode cX8_clause 390 = .ok (.aload_n 0, 1) := dk_42 (dk_at dksX8_clause_17 6 rfl rfl)
theorem dX8_clause_391 : decode cX8_clause 391 = .ok (.getfield 14, 3) := dk_180 0 14 (dk_at dksX8_clause_17 7 rfl rfl)
theorem dX8_clause_394 : decode cX8_clause 394 = .ok (.getfield 72, 3) := dk_180 0 72 (dk_at dksX8_clause_17 10 rfl rfl)
theorem dX8_clause_397 : decode cX8_clause 397 = .ok (.new 108, 3) := dk_187 0 108 (dk_at dksX8_clause_17 13 rfl rfl)
theorem dX8_clause_400 : decode cX8_clause 400 = .ok (.dup, 1) := dk_89 (dk_at dksX8_clause_17 16 rfl rfl)
theorem dX8_clause_401 : decode cX8_clause 401 = .ok (.iload 4, 2) := dk_21 4 (dk_at dksX8_clause_17 17 rfl rfl)
theorem dX8_clause_403 : decode cX8_clause 403 = .ok (.aload_n 0, 1) := dk_42 (dk_at dksX8_clause_17 19 rfl rfl)
theorem dX8_clause_404 : decode cX8_clause 404 = .ok (.iconst 0, 1) := dk_3 (dk_at dksX8_clause_17 20 rfl rfl)
theorem dX8_clause_405 : decode cX8_clause 405 = .ok (.iconst 5, 1) := dk_8 (dk_at dksX8_clause_17 21 rfl rfl)
theorem dX8_clause_406 : decode cX8_clause 406 = .ok (.invokevirtual 93, 3) := dk_182 0 93 (dk_at dksX8_clause_18 0 rfl rfl)
theorem dX8_clause_409 : decode cX8_clause 409 = .ok (.invokespecial 110, 3) := dk_183 0 110 (dk_at dksX8_clause_18 3 rfl rfl)
theorem dX8_clause_412 : decode cX8_clause 412 = .ok (.invokevirtual 102, 3) := dk_182 0 102 (dk_at dksX8_clause_18 6 rfl rfl)
theorem dX8_clause_415 : decode cX8_clause 415 = .ok (.pop, 1) := dk_87 (dk_at dksX8_clause_18 9 rfl rfl)
theorem dX8_clause_416 : decode cX8_clause 416 = .ok (.return_, 1) := dk_177 (dk_at dksX8_clause_18 10 rfl rfl)
theorem dX8_clause_417 : decode cX8_clause 417 = .ok (.aload_n 0, 1) := dk_42 (dk_at dksX8_clause_18 11 rfl rfl)
theorem dX8_clause_418 : decode cX8_clause 418 = .ok (.getfield 14, 3) := dk_180 0 14 (dk_at dksX8_clause_18 12 rfl rfl)
theorem dX8_clause_421 : decode cX8_clause 421 = .ok (.aload_n 0, 1) := dk_42 (dk_at dksX8_clause_18 15 rfl rfl)
theorem dX8_clause_422 : decode cX8_clause 422 = .ok (.iconst 0, 1) := dk_3 (dk_at dksX8_clause_18 16 rfl rfl)
theorem dX8_clause_423 : decode cX8_clause 423 = .ok (.bipush 30, 2) := dk_16 30 (dk_at dksX8_clause_18 17 rfl rfl)
theorem dX8_clause_425 : decode cX8_clause 425 = .ok (.invokevirtual 93, 3) := dk_182 0 93 (dk_at dksX8_clause_18 19 rfl rfl)
theorem dX8_clause_428 : decode cX8_clause 428 = .ok (.putfield 111, 3) := dk_181 0 111 (dk_at dksX8_clause_19 0 rfl rfl)
theorem dX8_clause_431 : decode cX8_clause 431 = .ok (.return_, 1) := dk_177 (dk_at dksX8_clause_19 3 rfl rfl)
abbrev cX8_isFull : ByteArray := prog_7_method_3_code
def yX8_isFull : MethodName := ⟨RX8, "isFull", "(Ljava/lang/String;)Z"⟩
def dkwX8_isFull_7 : List UInt8 := [180, 0, 72, 182, 0, 65, 16, 12, 160, 0, 7, 4, 167, 0, 4, 3, 172, 3, 172]
abbrev dktX8_isFull_7 : List UInt8 := dkwX8_isFull_7 ++ []
def dkwX8_isFull_6 : List UInt8 := [180, 0, 14, 180, 0, 69, 182, 0, 65, 16, 20, 160, 0, 7, 4, 167, 0, 4, 3, 172, 42, 180, 0, 14]
abbrev dktX8_isFull_6 : List UInt8 := dkwX8_isFull_6 ++ dktX8_isFull_7
def dkwX8_isFull_5 : List UInt8 := [42, 180, 0, 14, 180, 0, 61, 182, 0, 65, 16, 7, 160, 0, 7, 4, 167, 0, 4, 3, 172, 42]
abbrev dktX8_isFull_5 : List UInt8 := dkwX8_isFull_5 ++ dktX8_isFull_6
def dkwX8_isFull_4 : List UInt8 := [170, 0, 0, 0, 0, 0, 0, 91, 0, 0, 0, 0, 0, 0, 0, 2, 0, 0, 0, 28, 0, 0, 0, 49, 0, 0, 0, 70]
abbrev dktX8_isFull_4 : List UInt8 := dkwX8_isFull_4 ++ dktX8_isFull_5
def dkwX8_isFull_3 : List UInt8 := [62, 167, 0, 14, 44, 18, 59, 182, 0, 53, 153, 0, 5, 5, 62, 29]
abbrev dktX8_isFull_3 : List UInt8 := dkwX8_isFull_3 ++ dktX8_isFull_4
def dkwX8_isFull_2 : List UInt8 := [44, 18, 51, 182, 0, 53, 153, 0, 33, 3, 62, 167, 0, 28, 44, 18, 57, 182, 0, 53, 153, 0, 19, 4]
abbrev dktX8_isFull_2 : List UInt8 := dkwX8_isFull_2 ++ dktX8_isFull_3
def dkwX8_isFull_1 : List UInt8 := [171, 0, 0, 0, 0, 73, 0, 0, 0, 3, 202, 56, 131, 124, 0, 0, 0, 34, 0, 50, 175, 151, 0, 0, 0, 62, 0, 51, 175, 242, 0, 0, 0, 48]
abbrev dktX8_isFull_1 : List UInt8 := dkwX8_isFull_1 ++ dktX8_isFull_2
def dkwX8_isFull_0 : List UInt8 := [42, 180, 0, 14, 180, 0, 43, 16, 60, 160, 0, 5, 4, 172, 43, 77, 2, 62, 44, 182, 0, 46]
abbrev dktX8_isFull_0 : List UInt8 := dkwX8_isFull_0 ++ dktX8_isFull_1
theorem dksX8_isFull_0 : cX8_isFull.data.toList.drop 0 = dktX8_isFull_0 := by decide +kernel
theorem dksX8_isFull_1 : cX8_isFull.data.toList.drop 22 = dktX8_isFull_1 := dk_seg dksX8_isFull_0 22 rfl rfl
theorem dksX8_isFull_2 : cX8_isFull.data.toList.drop 56 = dktX8_isFull_2 := dk_seg dksX8_isFull_1 34 rfl rfl
theorem dksX8_isFull_3 : cX8_isFull.data.toList.drop 80 = dktX8_isFull_3 := dk_seg dksX8_isFull_2 24 rfl rfl
theorem dksX8_isFull_4 : cX8_isFull.data.toList.drop 96 = dktX8_isFull_4 := dk_seg dksX8_isFull_3 16 rfl rfl
theorem dksX8_isFull_5 : cX8_isFull.data.toList.drop 124 = dktX8_isFull_5 := dk_seg dksX8_isFull_4 28 rfl rfl
theorem dksX8_isFull_6 : cX8_isFull.data.toList.drop 146 = dktX8_isFull_6 := dk_seg dksX8_isFull_5 22 rfl rfl
theorem dksX8_isFull_7 : cX8_isFull.data.toList.drop 170 = dktX8_isFull_7 := dk_seg dksX8_isFull_6 24 rfl rfl
theorem dX8_isFull_0 : decode cX8_isFull 0 = .ok (.aload_n 0, 1) := dk_42 (dk_at dksX8_isFull_0 0 rfl rfl)
theorem dX8_isFull_1 : decode cX8_isFull 1 = .ok (.getfield 14, 3) := dk_180 0 14 (dk_at dksX8_isFull_0 1 rfl rfl)
theorem dX8_isFull_4 : decode cX8_isFull 4 = .ok (.getfield 43, 3) := dk_180 0 43 (dk_at dksX8_isFull_0 4 rfl rfl)
theorem dX8_isFull_7 : decode cX8_isFull 7 = .ok (.bipush 60, 2) := dk_16 60 (dk_at dksX8_isFull_0 7 rfl rfl)
theorem dX8_isFull_9 : decode cX8_isFull 9 = .ok (.if_icmp .ne 5, 3) := dk_160 0 5 (dk_at dksX8_isFull_0 9 rfl rfl)
theorem dX8_isFull_12 : decode cX8_isFull 12 = .ok (.iconst 1, 1) := dk_4 (dk_at dksX8_isFull_0 12 rfl rfl)
theorem dX8_isFull_13 : decode cX8_isFull 13 = .ok (.ireturn, 1) := dk_172 (dk_at dksX8_isFull_0 13 rfl rfl)
theorem dX8_isFull_14 : decode cX8_isFull 14 = .ok (.aload_n 1, 1) := dk_43 (dk_at dksX8_isFull_0 14 rfl rfl)
theorem dX8_isFull_15 : decode cX8_isFull 15 = .ok (.astore_n 2, 1) := dk_77 (dk_at dksX8_isFull_0 15 rfl rfl)
theorem dX8_isFull_16 : decode cX8_isFull 16 = .ok (.iconst (-1), 1) := dk_2 (dk_at dksX8_isFull_0 16 rfl rfl)
theorem dX8_isFull_17 : decode cX8_isFull 17 = .ok (.istore_n 3, 1) := dk_62 (dk_at dksX8_isFull_0 17 rfl rfl)
theorem dX8_isFull_18 : decode cX8_isFull 18 = .ok (.aload_n 2, 1) := dk_44 (dk_at dksX8_isFull_0 18 rfl rfl)
theorem dX8_isFull_19 : decode cX8_isFull 19 = .ok (.invokevirtual 46, 3) := dk_182 0 46 (dk_at dksX8_isFull_0 19 rfl rfl)
theorem dX8_isFull_22 : decode cX8_isFull 22 = .ok (.lookupswitch 73 #[(-902265988, 34), (3321751, 62), (3387378, 48)], 34) := by decide +kernel
theorem dX8_isFull_56 : decode cX8_isFull 56 = .ok (.aload_n 2, 1) := dk_44 (dk_at dksX8_isFull_2 0 rfl rfl)
theorem dX8_isFull_57 : decode cX8_isFull 57 = .ok (.ldc 51, 2) := dk_18 51 (dk_at dksX8_isFull_2 1 rfl rfl)
theorem dX8_isFull_59 : decode cX8_isFull 59 = .ok (.invokevirtual 53, 3) := dk_182 0 53 (dk_at dksX8_isFull_2 3 rfl rfl)
theorem dX8_isFull_62 : decode cX8_isFull 62 = .ok (.ifCond .eq 33, 3) := dk_153 0 33 (dk_at dksX8_isFull_2 6 rfl rfl)
theorem dX8_isFull_65 : decode cX8_isFull 65 = .ok (.iconst 0, 1) := dk_3 (dk_at dksX8_isFull_2 9 rfl rfl)
theorem dX8_isFull_66 : decode cX8_isFull 66 = .ok (.istore_n 3, 1) := dk_62 (dk_at dksX8_isFull_2 10 rfl rfl)
theorem dX8_isFull_67 : decode cX8_isFull 67 = .ok (.goto 28, 3) := dk_167 0 28 (dk_at dksX8_isFull_2 11 rfl rfl)
theorem dX8_isFull_70 : decode cX8_isFull 70 = .ok (.aload_n 2, 1) := dk_44 (dk_at dksX8_isFull_2 14 rfl rfl)
theorem dX8_isFull_71 : decode cX8_isFull 71 = .ok (.ldc 57, 2) := dk_18 57 (dk_at dksX8_isFull_2 15 rfl rfl)
theorem dX8_isFull_73 : decode cX8_isFull 73 = .ok (.invokevirtual 53, 3) := dk_182 0 53 (dk_at dksX8_isFull_2 17 rfl rfl)
theorem dX8_isFull_76 : decode cX8_isFull 76 = .ok (.ifCond .eq 19, 3) := dk_153 0 19 (dk_at dksX8_isFull_2 20 rfl rfl)
theorem dX8_isFull_79 : decode cX8_isFull 79 = .ok (.iconst 1, 1) := dk_4 (dk_at dksX8_isFull_2 23 rfl rfl)
theorem dX8_isFull_80 : decode cX8_isFull 80 = .ok (.istore_n 3, 1) := dk_62 (dk_at dksX8_isFull_3 0 rfl rfl)
theorem dX8_isFull_81 : decode cX8_isFull 81 = .ok (.goto 14, 3) := dk_167 0 14 (dk_at dksX8_isFull_3 1 rfl rfl)
theorem dX8_isFull_84 : decode cX8_isFull 84 = .ok (.aload_n 2, 1) := dk_44 (dk_at dksX8_isFull_3 4 rfl rfl)
theorem dX8_isFull_85 : decode cX8_isFull 85 = .ok (.ldc 59, 2) := dk_18 59 (dk_at dksX8_isFull_3 5 rfl rfl)
theorem dX8_isFull_87 : decode cX8_isFull 87 = .ok (.invokevirtual 53, 3) := dk_182 0 53 (dk_at dksX8_isFull_3 7 rfl rfl)
theorem dX8_isFull_90 : decode cX8_isFull 90 = .ok (.ifCond .eq 5, 3) := dk_153 0 5 (dk_at dksX8_isFull_3 10 rfl rfl)
theorem dX8_isFull_93 : decode cX8_isFull 93 = .ok (.iconst 2, 1) := dk_5 (dk_at dksX8_isFull_3 13 rfl rfl)
theorem dX8_isFull_94 : decode cX8_isFull 94 = .ok (.istore_n 3, 1) := dk_62 (dk_at dksX8_isFull_3 14 rfl rfl)
theorem dX8_isFull_95 : decode cX8_isFull 95 = .ok (.iload_n 3, 1) := dk_29 (dk_at dksX8_isFull_3 15 rfl rfl)
theorem dX8_isFull_96 : decode cX8_isFull 96 = .ok (.tableswitch 91 0 2 #[28, 49, 70], 28) := by decide +kernel
theorem dX8_isFull_124 : decode cX8_isFull 124 = .ok (.aload_n 0, 1) := dk_42 (dk_at dksX8_isFull_5 0 rfl rfl)
theorem dX8_isFull_125 : decode cX8_isFull 125 = .ok (.getfield 14, 3) := dk_180 0 14 (dk_at dksX8_isFull_5 1 rfl rfl)
theorem dX8_isFull_128 : decode cX8_isFull 128 = .ok (.getfield 61, 3) := dk_180 0 61 (dk_at dksX8_isFull_5 4 rfl rfl)
theorem dX8_isFull_131 : decode cX8_isFull 131 = .ok (.invokevirtual 65, 3) := dk_182 0 65 (dk_at dksX8_isFull_5 7 rfl rfl)
theorem dX8_isFull_134 : decode cX8_isFull 134 = .ok (.bipush 7, 2) := dk_16 7 (dk_at dksX8_isFull_5 10 rfl rfl)
theorem dX8_isFull_136 : decode cX8_isFull 136 = .ok (.if_icmp .ne 7, 3) := dk_160 0 7 (dk_at dksX8_isFull_5 12 rfl rfl)
theorem dX8_isFull_139 : decode cX8_isFull 139 = .ok (.iconst 1, 1) := dk_4 (dk_at dksX8_isFull_5 15 rfl rfl)
theorem dX8_isFull_140 : decode cX8_isFull 140 = .ok (.goto 4, 3) := dk_167 0 4 (dk_at dksX8_isFull_5 16 rfl rfl)
theorem dX8_isFull_143 : decode cX8_isFull 143 = .ok (.iconst 0, 1) := dk_3 (dk_at dksX8_isFull_5 19 rfl rfl)
theorem dX8_isFull_144 : decode cX8_isFull 144 = .ok (.ireturn, 1) := dk_172 (dk_at dksX8_isFull_5 20 rfl rfl)
theorem dX8_isFull_145 : decode cX8_isFull 145 = .ok (.aload_n 0, 1) := dk_42 (dk_at dksX8_isFull_5 21 rfl rfl)
theorem dX8_isFull_146 : decode cX8_isFull 146 = .ok (.getfield 14, 3) := dk_180 0 14 (dk_at dksX8_isFull_6 0 rfl rfl)
theorem dX8_isFull_149 : decode cX8_isFull 149 = .ok (.getfield 69, 3) := dk_180 0 69 (dk_at dksX8_isFull_6 3 rfl rfl)
theorem dX8_isFull_152 : decode cX8_isFull 152 = .ok (.invokevirtual 65, 3) := dk_182 0 65 (dk_at dksX8_isFull_6 6 rfl rfl)
theorem dX8_isFull_155 : decode cX8_isFull 155 = .ok (.bipush 20, 2) := dk_16 20 (dk_at dksX8_isFull_6 9 rfl rfl)
theorem dX8_isFull_157 : decode cX8_isFull 157 = .ok (.if_icmp .ne 7, 3) := dk_160 0 7 (dk_at dksX8_isFull_6 11 rfl rfl)
theorem dX8_isFull_160 : decode cX8_isFull 160 = .ok (.iconst 1, 1) := dk_4 (dk_at dksX8_isFull_6 14 rfl rfl)
theorem dX8_isFull_161 : decode cX8_isFull 161 = .ok (.goto 4, 3) := dk_167 0 4 (dk_at dksX8_isFull_6 15 rfl rfl)
theorem dX8_isFull_164 : decode cX8_isFull 164 = .ok (.iconst 0, 1) := dk_3 (dk_at dksX8_isFull_6 18 rfl rfl)
theorem dX8_isFull_165 : decode cX8_isFull 165 = .ok (.ireturn, 1) := dk_172 (dk_at dksX8_isFull_6 19 rfl rfl)
theorem dX8_isFull_166 : decode cX8_isFull 166 = .ok (.aload_n 0, 1) := dk_42 (dk_at dksX8_isFull_6 20 rfl rfl)
theorem dX8_isFull_167 : decode cX8_isFull 167 = .ok (.getfield 14, 3) := dk_180 0 14 (dk_at dksX8_isFull_6 21 rfl rfl)
theorem dX8_isFull_170 : decode cX8_isFull 170 = .ok (.getfield 72, 3) := dk_180 0 72 (dk_at dksX8_isFull_7 0 rfl rfl)
theorem dX8_isFull_173 : decode cX8_isFull 173 = .ok (.invokevirtual 65, 3) := dk_182 0 65 (dk_at dksX8_isFull_7 3 rfl rfl)
theorem dX8_isFull_176 : decode cX8_isFull 176 = .ok (.bipush 12, 2) := dk_16 12 (dk_at dksX8_isFull_7 6 rfl rfl)
theorem dX8_isFull_178 : decode cX8_isFull 178 = .ok (.if_icmp .ne 7, 3) := dk_160 0 7 (dk_at dksX8_isFull_7 8 rfl rfl)
theorem dX8_isFull_181 : decode cX8_isFull 181 = .ok (.iconst 1, 1) := dk_4 (dk_at dksX8_isFull_7 11 rfl rfl)
theorem dX8_isFull_182 : decode cX8_isFull 182 = .ok (.goto 4, 3) := dk_167 0 4 (dk_at dksX8_isFull_7 12 rfl rfl)
theorem dX8_isFull_185 : decode cX8_isFull 185 = .ok (.iconst 0, 1) := dk_3 (dk_at dksX8_isFull_7 15 rfl rfl)
theorem dX8_isFull_186 : decode cX8_isFull 186 = .ok (.ireturn, 1) := dk_172 (dk_at dksX8_isFull_7 16 rfl rfl)
theorem dX8_isFull_187 : decode cX8_isFull 187 = .ok (.iconst 0, 1) := dk_3 (dk_at dksX8_isFull_7 17 rfl rfl)
theorem dX8_isFull_188 : decode cX8_isFull 188 = .ok (.ireturn, 1) := dk_172 (dk_at dksX8_isFull_7 18 rfl rfl)
theorem q126 : (Jvm.Cond.initialized "VowelChoir$ChoirReader") ∈ lw_all := lw_g (lw_at lw_m1 28 rfl) rfl
theorem q510 : (Jvm.Cond.fieldLinkNest "VowelChoir$ChoirReader" (61 : Nat) "VowelChoir$Told" "singers" "Ljava/util/ArrayList;" "VowelChoir") ∈ lw_tbl := lw_at lw_m2 172 rfl
theorem q515 : (Jvm.Cond.fieldLinkNest "VowelChoir$ChoirReader" (69 : Nat) "VowelChoir$Told" "notes" "Ljava/util/ArrayList;" "VowelChoir") ∈ lw_tbl := lw_at lw_m2 177 rfl
theorem q518 : (Jvm.Cond.fieldLinkNest "VowelChoir$ChoirReader" (72 : Nat) "VowelChoir$Told" "likes" "Ljava/util/ArrayList;" "VowelChoir") ∈ lw_tbl := lw_at lw_m2 180 rfl
theorem q521 : (Jvm.Cond.fieldLinkNest "VowelChoir$ChoirReader" (111 : Nat) "VowelChoir$Told" "rest" "I" "VowelChoir") ∈ lw_tbl := lw_at lw_m2 183 rfl
theorem q523 : (Jvm.Cond.fieldLinkNest "VowelChoir$ChoirReader" (43 : Nat) "VowelChoir$Told" "clauses" "I" "VowelChoir") ∈ lw_tbl := lw_at lw_m2 185 rfl
theorem q937 : (Jvm.Cond.instantiable "VowelChoir$ChoirReader" (6 : Nat)) ∈ lw_all := lw_g (lw_at lw_m4 119 rfl) rfl
theorem q939 : (Jvm.Cond.instanceMethod ({ cls := "VowelChoir$ChoirReader", name := "<init>", desc := "([BI)V" } : Jvm.MethodName)) ∈ lw_all := lw_g (lw_at lw_m4 121 rfl) rfl
theorem q940 : (Jvm.Cond.code ({ cls := "VowelChoir$ChoirReader", name := "<init>", desc := "([BI)V" } : Jvm.MethodName) prog_7_method_1_code (3 : Nat) (Option.none : Option Jvm.ClassFile.FieldType)) ∈ lw_all := lw_g (lw_at lw_m4 122 rfl) rfl
theorem q941 : (Jvm.Cond.methodLink "VowelChoir$ChoirReader" (3 : Nat) ({ cls := "VowelChoir$Reader", name := "<init>", desc := "([BI)V" } : Jvm.MethodName)) ∈ lw_all := lw_g (lw_at lw_m4 123 rfl) rfl
theorem q945 : (Jvm.Cond.classLink "VowelChoir$ChoirReader" (9 : Nat) "VowelChoir$Told") ∈ lw_all := lw_g (lw_at lw_m4 127 rfl) rfl
theorem q946 : (Jvm.Cond.methodLinkNest "VowelChoir$ChoirReader" (11 : Nat) ({ cls := "VowelChoir$Told", name := "<init>", desc := "()V" } : Jvm.MethodName) "VowelChoir") ∈ lw_tbl := lw_at lw_m4 128 rfl
theorem q947 : (Jvm.Cond.fieldLink "VowelChoir$ChoirReader" (14 : Nat) "VowelChoir$ChoirReader" "t" "LVowelChoir$Told;") ∈ lw_all := lw_g (lw_at lw_m4 129 rfl) rfl
theorem q950 : (Jvm.Cond.fieldLink "VowelChoir$ChoirReader" (28 : Nat) "VowelChoir$ChoirReader" "size" "I") ∈ lw_all := lw_g (lw_at lw_m4 132 rfl) rfl
theorem q951 : (Jvm.Cond.sameField "VowelChoir$ChoirReader" "VowelChoir$Reader" "size" "I") ∈ lw_all := lw_g (lw_at lw_m4 133 rfl) rfl
theorem q959 : (Jvm.Cond.fieldLink "VowelChoir$ChoirReader" (24 : Nat) "VowelChoir$ChoirReader" "next" "I") ∈ lw_all := lw_g (lw_at lw_m4 141 rfl) rfl
theorem q960 : (Jvm.Cond.sameField "VowelChoir$ChoirReader" "VowelChoir$Reader" "next" "I") ∈ lw_all := lw_g (lw_at lw_m4 142 rfl) rfl
theorem q975 : (Jvm.Cond.laysFinal "VowelChoir$ChoirReader" "VowelChoir$ChoirReader" "t" "LVowelChoir$Told;") ∈ lw_all := lw_g (lw_at lw_m4 157 rfl) rfl
theorem q976 : (Jvm.Cond.soleField "VowelChoir$ChoirReader" "t") ∈ lw_all := lw_g (lw_at lw_m4 158 rfl) rfl
theorem q977 : (Jvm.Cond.laysFinal "VowelChoir$ChoirReader" "VowelChoir$Reader" "text" "[B") ∈ lw_all := lw_g (lw_at lw_m4 159 rfl) rfl
theorem q979 : (Jvm.Cond.laysFinal "VowelChoir$ChoirReader" "VowelChoir$Reader" "size" "I") ∈ lw_all := lw_g (lw_at lw_m4 161 rfl) rfl
theorem q981 : (Jvm.Cond.lays "VowelChoir$ChoirReader" "VowelChoir$Reader" "next" "I") ∈ lw_all := lw_g (lw_at lw_m4 163 rfl) rfl
theorem q983 : (Jvm.Cond.lays "VowelChoir$ChoirReader" "VowelChoir$Reader" "from" "I") ∈ lw_all := lw_g (lw_at lw_m4 165 rfl) rfl
theorem q985 : (Jvm.Cond.lays "VowelChoir$ChoirReader" "VowelChoir$Reader" "open" "I") ∈ lw_all := lw_g (lw_at lw_m4 167 rfl) rfl
theorem q987 : (Jvm.Cond.superclass "VowelChoir$ChoirReader" "VowelChoir$Reader") ∈ lw_all := lw_g (lw_at lw_m4 169 rfl) rfl
theorem q989 : (Jvm.Cond.instanceMethod ({ cls := "VowelChoir$ChoirReader", name := "reads", desc := "()LVowelChoir$Told;" } : Jvm.MethodName)) ∈ lw_all := lw_g (lw_at lw_m4 171 rfl) rfl
theorem q990 : (Jvm.Cond.selects "VowelChoir$ChoirReader" ({ cls := "VowelChoir$ChoirReader", name := "reads", desc := "()LVowelChoir$Told;" } : Jvm.MethodName) ({ cls := "VowelChoir$ChoirReader", name := "reads", desc := "()LVowelChoir$Told;" } : Jvm.MethodName)) ∈ lw_all := lw_g (lw_at lw_m4 172 rfl) rfl
theorem q991 : (Jvm.Cond.code ({ cls := "VowelChoir$ChoirReader", name := "reads", desc := "()LVowelChoir$Told;" } : Jvm.MethodName) prog_7_method_2_code (1 : Nat) (Option.some (Jvm.ClassFile.FieldType.object "VowelChoir$Told"))) ∈ lw_all := lw_g (lw_at lw_m4 173 rfl) rfl
theorem q992 : (Jvm.Cond.methodLink "VowelChoir$ChoirReader" (20 : Nat) ({ cls := "VowelChoir$ChoirReader", name := "sign", desc := "()I" } : Jvm.MethodName)) ∈ lw_all := lw_g (lw_at lw_m4 174 rfl) rfl
theorem q993 : (Jvm.Cond.sameMethod "VowelChoir$ChoirReader" "VowelChoir$Reader" "sign" "()I") ∈ lw_all := lw_g (lw_at lw_m4 175 rfl) rfl
theorem q995 : (Jvm.Cond.selects "VowelChoir$ChoirReader" ({ cls := "VowelChoir$ChoirReader", name := "sign", desc := "()I" } : Jvm.MethodName) ({ cls := "VowelChoir$Reader", name := "sign", desc := "()I" } : Jvm.MethodName)) ∈ lw_all := lw_g (lw_at lw_m4 177 rfl) rfl
theorem q998 : (Jvm.Cond.methodLink "VowelChoir$ChoirReader" (31 : Nat) ({ cls := "VowelChoir$ChoirReader", name := "word", desc := "()Ljava/lang/String;" } : Jvm.MethodName)) ∈ lw_all := lw_g (lw_at lw_m4 180 rfl) rfl
theorem q999 : (Jvm.Cond.sameMethod "VowelChoir$ChoirReader" "VowelChoir$Reader" "word" "()Ljava/lang/String;") ∈ lw_all := lw_g (lw_at lw_m4 181 rfl) rfl
theorem q1001 : (Jvm.Cond.selects "VowelChoir$ChoirReader" ({ cls := "VowelChoir$ChoirReader", name := "word", desc := "()Ljava/lang/String;" } : Jvm.MethodName) ({ cls := "VowelChoir$Reader", name := "word", desc := "()Ljava/lang/String;" } : Jvm.MethodName)) ∈ lw_all := lw_g (lw_at lw_m4 183 rfl) rfl
theorem q1029 : (Jvm.Cond.methodLink "VowelChoir$ChoirReader" (35 : Nat) ({ cls := "VowelChoir$ChoirReader", name := "clause", desc := "(Ljava/lang/String;)V" } : Jvm.MethodName)) ∈ lw_all := lw_g (lw_at lw_m4 211 rfl) rfl
theorem q1030 : (Jvm.Cond.privateMethod ({ cls := "VowelChoir$ChoirReader", name := "clause", desc := "(Ljava/lang/String;)V" } : Jvm.MethodName)) ∈ lw_tbl := lw_at lw_m4 212 rfl
theorem q1031 : (Jvm.Cond.instanceMethod ({ cls := "VowelChoir$ChoirReader", name := "clause", desc := "(Ljava/lang/String;)V" } : Jvm.MethodName)) ∈ lw_all := lw_g (lw_at lw_m4 213 rfl) rfl
theorem q1032 : (Jvm.Cond.code ({ cls := "VowelChoir$ChoirReader", name := "clause", desc := "(Ljava/lang/String;)V" } : Jvm.MethodName) prog_7_method_4_code (6 : Nat) (Option.none : Option Jvm.ClassFile.FieldType)) ∈ lw_all := lw_g (lw_at lw_m4 214 rfl) rfl
theorem q1033 : (Jvm.Cond.methodLink "VowelChoir$ChoirReader" (46 : Nat) ({ cls := "java/lang/String", name := "hashCode", desc := "()I" } : Jvm.MethodName)) ∈ lw_all := lw_g (lw_at lw_m4 215 rfl) rfl
theorem q1094 : (Jvm.Cond.stringRef "VowelChoir$ChoirReader" (51 : Nat) "singer") ∈ lw_tbl := lw_at lw_m5 36 rfl
theorem q1095 : (Jvm.Cond.methodLink "VowelChoir$ChoirReader" (53 : Nat) ({ cls := "java/lang/String", name := "equals", desc := "(Ljava/lang/Object;)Z" } : Jvm.MethodName)) ∈ lw_all := lw_g (lw_at lw_m5 37 rfl) rfl
theorem q1103 : (Jvm.Cond.stringRef "VowelChoir$ChoirReader" (57 : Nat) "note") ∈ lw_tbl := lw_at lw_m5 45 rfl
theorem q1104 : (Jvm.Cond.stringRef "VowelChoir$ChoirReader" (59 : Nat) "like") ∈ lw_tbl := lw_at lw_m5 46 rfl
theorem q1105 : (Jvm.Cond.stringRef "VowelChoir$ChoirReader" (75 : Nat) "rest") ∈ lw_tbl := lw_at lw_m5 47 rfl
theorem q1106 : (Jvm.Cond.methodLink "VowelChoir$ChoirReader" (77 : Nat) ({ cls := "VowelChoir$ChoirReader", name := "wrong", desc := "()LVowelChoir$Wrong;" } : Jvm.MethodName)) ∈ lw_all := lw_g (lw_at lw_m5 48 rfl) rfl
theorem q1107 : (Jvm.Cond.sameMethod "VowelChoir$ChoirReader" "VowelChoir$Reader" "wrong" "()LVowelChoir$Wrong;") ∈ lw_all := lw_g (lw_at lw_m5 49 rfl) rfl
theorem q1109 : (Jvm.Cond.selects "VowelChoir$ChoirReader" ({ cls := "VowelChoir$ChoirReader", name := "wrong", desc := "()LVowelChoir$Wrong;" } : Jvm.MethodName) ({ cls := "VowelChoir$Reader", name := "wrong", desc := "()LVowelChoir$Wrong;" } : Jvm.MethodName)) ∈ lw_all := lw_g (lw_at lw_m5 51 rfl) rfl
theorem q1140 : (Jvm.Cond.methodLink "VowelChoir$ChoirReader" (81 : Nat) ({ cls := "VowelChoir$ChoirReader", name := "isFull", desc := "(Ljava/lang/String;)Z" } : Jvm.MethodName)) ∈ lw_all := lw_g (lw_at lw_m5 82 rfl) rfl
theorem q1141 : (Jvm.Cond.privateMethod ({ cls := "VowelChoir$ChoirReader", name := "isFull", desc := "(Ljava/lang/String;)Z" } : Jvm.MethodName)) ∈ lw_tbl := lw_at lw_m5 83 rfl
theorem q1142 : (Jvm.Cond.instanceMethod ({ cls := "VowelChoir$ChoirReader", name := "isFull", desc := "(Ljava/lang/String;)Z" } : Jvm.MethodName)) ∈ lw_all := lw_g (lw_at lw_m5 84 rfl) rfl
theorem q1143 : (Jvm.Cond.code ({ cls := "VowelChoir$ChoirReader", name := "isFull", desc := "(Ljava/lang/String;)Z" } : Jvm.MethodName) prog_7_method_3_code (4 : Nat) (Option.some Jvm.ClassFile.FieldType.boolean)) ∈ lw_all := lw_g (lw_at lw_m5 85 rfl) rfl
theorem q1144 : (Jvm.Cond.methodLink "VowelChoir$ChoirReader" (65 : Nat) ({ cls := "java/util/ArrayList", name := "size", desc := "()I" } : Jvm.MethodName)) ∈ lw_all := lw_g (lw_at lw_m5 86 rfl) rfl
theorem q1145 : (Jvm.Cond.classLink "VowelChoir$ChoirReader" (85 : Nat) "VowelChoir$Wrong") ∈ lw_all := lw_g (lw_at lw_m5 87 rfl) rfl
theorem q1146 : (Jvm.Cond.methodLink "VowelChoir$ChoirReader" (87 : Nat) ({ cls := "VowelChoir$Wrong", name := "<init>", desc := "(II)V" } : Jvm.MethodName)) ∈ lw_all := lw_g (lw_at lw_m5 88 rfl) rfl
theorem q1147 : (Jvm.Cond.methodLink "VowelChoir$ChoirReader" (90 : Nat) ({ cls := "java/lang/String", name := "length", desc := "()I" } : Jvm.MethodName)) ∈ lw_all := lw_g (lw_at lw_m5 89 rfl) rfl
theorem q1148 : (Jvm.Cond.methodLink "VowelChoir$ChoirReader" (93 : Nat) ({ cls := "VowelChoir$ChoirReader", name := "number", desc := "(II)I" } : Jvm.MethodName)) ∈ lw_all := lw_g (lw_at lw_m5 90 rfl) rfl
theorem q1149 : (Jvm.Cond.sameMethod "VowelChoir$ChoirReader" "VowelChoir$Reader" "number" "(II)I") ∈ lw_all := lw_g (lw_at lw_m5 91 rfl) rfl
theorem q1151 : (Jvm.Cond.selects "VowelChoir$ChoirReader" ({ cls := "VowelChoir$ChoirReader", name := "number", desc := "(II)I" } : Jvm.MethodName) ({ cls := "VowelChoir$Reader", name := "number", desc := "(II)I" } : Jvm.MethodName)) ∈ lw_all := lw_g (lw_at lw_m5 93 rfl) rfl
theorem q1157 : (Jvm.Cond.classLink "VowelChoir$ChoirReader" (97 : Nat) "VowelChoir$Singer") ∈ lw_all := lw_g (lw_at lw_m5 99 rfl) rfl
theorem q1159 : (Jvm.Cond.methodLink "VowelChoir$ChoirReader" (99 : Nat) ({ cls := "VowelChoir$Singer", name := "<init>", desc := "(III)V" } : Jvm.MethodName)) ∈ lw_all := lw_g (lw_at lw_m5 101 rfl) rfl
theorem q1179 : (Jvm.Cond.methodLink "VowelChoir$ChoirReader" (102 : Nat) ({ cls := "java/util/ArrayList", name := "add", desc := "(Ljava/lang/Object;)Z" } : Jvm.MethodName)) ∈ lw_all := lw_g (lw_at lw_m5 121 rfl) rfl
theorem q1209 : (Jvm.Cond.selects "VowelChoir$ChoirReader" ({ cls := "java/lang/Object", name := "getClass", desc := "()Ljava/lang/Class;" } : Jvm.MethodName) ({ cls := "java/lang/Object", name := "getClass", desc := "()Ljava/lang/Class;" } : Jvm.MethodName)) ∈ lw_all := lw_g (lw_at lw_m5 151 rfl) rfl
theorem q1245 : (Jvm.Cond.classLink "VowelChoir$ChoirReader" (105 : Nat) "VowelChoir$Note") ∈ lw_all := lw_g (lw_at lw_m5 187 rfl) rfl
theorem q1247 : (Jvm.Cond.methodLink "VowelChoir$ChoirReader" (107 : Nat) ({ cls := "VowelChoir$Note", name := "<init>", desc := "(II)V" } : Jvm.MethodName)) ∈ lw_all := lw_g (lw_at lw_m5 189 rfl) rfl
theorem q1262 : (Jvm.Cond.classLink "VowelChoir$ChoirReader" (108 : Nat) "VowelChoir$Like") ∈ lw_all := lw_g (lw_at lw_m5 204 rfl) rfl
theorem q1264 : (Jvm.Cond.methodLink "VowelChoir$ChoirReader" (110 : Nat) ({ cls := "VowelChoir$Like", name := "<init>", desc := "(II)V" } : Jvm.MethodName)) ∈ lw_all := lw_g (lw_at lw_m5 206 rfl) rfl
theorem q1277 : (Jvm.Cond.methodLink "VowelChoir$ChoirReader" (39 : Nat) ({ cls := "VowelChoir$ChoirReader", name := "need", desc := "(I)V" } : Jvm.MethodName)) ∈ lw_all := lw_g (lw_at lw_m5 219 rfl) rfl
theorem q1278 : (Jvm.Cond.sameMethod "VowelChoir$ChoirReader" "VowelChoir$Reader" "need" "(I)V") ∈ lw_all := lw_g (lw_at lw_m5 220 rfl) rfl
theorem q1280 : (Jvm.Cond.selects "VowelChoir$ChoirReader" ({ cls := "VowelChoir$ChoirReader", name := "need", desc := "(I)V" } : Jvm.MethodName) ({ cls := "VowelChoir$Reader", name := "need", desc := "(I)V" } : Jvm.MethodName)) ∈ lw_all := lw_g (lw_at lw_m5 222 rfl) rfl
theorem q2617 : (Jvm.Cond.selects "VowelChoir$ChoirReader" ({ cls := "VowelChoir$Reader", name := "sign", desc := "()I" } : Jvm.MethodName) ({ cls := "VowelChoir$Reader", name := "sign", desc := "()I" } : Jvm.MethodName)) ∈ lw_all := lw_g (lw_at lw_m11 119 rfl) rfl
theorem q2624 : (Jvm.Cond.selects "VowelChoir$ChoirReader" ({ cls := "VowelChoir$Reader", name := "wrong", desc := "()LVowelChoir$Wrong;" } : Jvm.MethodName) ({ cls := "VowelChoir$Reader", name := "wrong", desc := "()LVowelChoir$Wrong;" } : Jvm.MethodName)) ∈ lw_all := lw_g (lw_at lw_m11 126 rfl) rfl
theorem q2644 : (Jvm.Cond.castable "VowelChoir$ChoirReader" "java/lang/Object") ∈ lw_tbl := lw_at lw_m11 146 rfl
theorem in_X8 : ∀ w ∈ wsX80, w ∈ lw_all := lw_in wsX80 [977, 979, 981, 983, 985, 975] (by decide +kernel) (by decide +kernel)
/-! VowelChoir$Wrong -/
set_option maxRecDepth 100000
def RX9 : String := "VowelChoir$Wrong"
def TX9 : u_T := fun k => match k with
  | 0 => ("java/lang/Throwable", "cause", "Ljava/lang/Throwable;", false)
  | 1 => ("java/lang/Throwable", "stackTrace", "[Ljava/lang/StackTraceElement;", false)
  | 2 => ("java/lang/Throwable", "suppressedExceptions", "Ljava/util/List;", false)
  | 3 => ("java/lang/Throwable", "detailMessage", "Ljava/lang/String;", false)
  | 4 => ("java/lang/Throwable", "backtrace", "Ljava/lang/Object;", false)
  | 5 => ("java/lang/Throwable", "depth", "I", false)
  | 6 => ("VowelChoir$Wrong", "kind", "I", true)
  | _ => ("VowelChoir$Wrong", "place", "I", true)
def tyX9 : Nat → FieldType := fun k => match k with
  | 0 => .object "java/lang/Throwable"
  | 1 => .array (.object "java/lang/StackTraceElement")
  | 2 => .object "java/util/List"
  | 3 => .object "java/lang/String"
  | 4 => .object "java/lang/Object"
  | 5 => .int
  | 6 => .int
  | _ => .int
abbrev wsX90 : List Cond := u_ws RX9 TX9 8
theorem nmX9 : ∀ a, a < 8 → ∀ b, b < 8 → a ≠ b → (TX9 a).2.1 ≠ (TX9 b).2.1 := by decide +kernel
theorem tyX9_ok : ∀ k, k < 8 → parseFieldDescriptor (TX9 k).2.2.1 = some (tyX9 k) := by decide +kernel
abbrev cX9_init : ByteArray := prog_32_method_1_code
def yX9_init : MethodName := ⟨RX9, "<init>", "(II)V"⟩
def dkwX9_init_0 : List UInt8 := [42, 1, 1, 3, 3, 183, 0, 1, 42, 27, 181, 0, 7, 42, 28, 181, 0, 13, 177]
abbrev dktX9_init_0 : List UInt8 := dkwX9_init_0 ++ []
theorem dksX9_init_0 : cX9_init.data.toList.drop 0 = dktX9_init_0 := by decide +kernel
theorem dX9_init_0 : decode cX9_init 0 = .ok (.aload_n 0, 1) := dk_42 (dk_at dksX9_init_0 0 rfl rfl)
theorem dX9_init_1 : decode cX9_init 1 = .ok (.aconst_null, 1) := dk_1 (dk_at dksX9_init_0 1 rfl rfl)
theorem dX9_init_2 : decode cX9_init 2 = .ok (.aconst_null, 1) := dk_1 (dk_at dksX9_init_0 2 rfl rfl)
theorem dX9_init_3 : decode cX9_init 3 = .ok (.iconst 0, 1) := dk_3 (dk_at dksX9_init_0 3 rfl rfl)
theorem dX9_init_4 : decode cX9_init 4 = .ok (.iconst 0, 1) := dk_3 (dk_at dksX9_init_0 4 rfl rfl)
theorem dX9_init_5 : decode cX9_init 5 = .ok (.invokespecial 1, 3) := dk_183 0 1 (dk_at dksX9_init_0 5 rfl rfl)
theorem dX9_init_8 : decode cX9_init 8 = .ok (.aload_n 0, 1) := dk_42 (dk_at dksX9_init_0 8 rfl rfl)
theorem dX9_init_9 : decode cX9_init 9 = .ok (.iload_n 1, 1) := dk_27 (dk_at dksX9_init_0 9 rfl rfl)
theorem dX9_init_10 : decode cX9_init 10 = .ok (.putfield 7, 3) := dk_181 0 7 (dk_at dksX9_init_0 10 rfl rfl)
theorem dX9_init_13 : decode cX9_init 13 = .ok (.aload_n 0, 1) := dk_42 (dk_at dksX9_init_0 13 rfl rfl)
theorem dX9_init_14 : decode cX9_init 14 = .ok (.iload_n 2, 1) := dk_28 (dk_at dksX9_init_0 14 rfl rfl)
theorem dX9_init_15 : decode cX9_init 15 = .ok (.putfield 13, 3) := dk_181 0 13 (dk_at dksX9_init_0 15 rfl rfl)
theorem dX9_init_18 : decode cX9_init 18 = .ok (.return_, 1) := dk_177 (dk_at dksX9_init_0 18 rfl rfl)
theorem q127 : (Jvm.Cond.initialized "VowelChoir$Wrong") ∈ lw_all := lw_g (lw_at lw_m1 29 rfl) rfl
theorem q216 : (Jvm.Cond.selects "VowelChoir$Wrong" ({ cls := "java/lang/Throwable", name := "fillInStackTrace", desc := "()Ljava/lang/Throwable;" } : Jvm.MethodName) ({ cls := "java/lang/Throwable", name := "fillInStackTrace", desc := "()Ljava/lang/Throwable;" } : Jvm.MethodName)) ∈ lw_all := lw_g (lw_at lw_m1 118 rfl) rfl
theorem q1113 : (Jvm.Cond.instantiable "VowelChoir$Wrong" (8 : Nat)) ∈ lw_all := lw_g (lw_at lw_m5 55 rfl) rfl
theorem q1114 : (Jvm.Cond.castable "VowelChoir$Wrong" "VowelChoir$Wrong") ∈ lw_tbl := lw_at lw_m5 56 rfl
theorem q1115 : (Jvm.Cond.selects "VowelChoir$Wrong" ({ cls := "java/lang/Throwable", name := "fillInStackTrace", desc := "(I)Ljava/lang/Throwable;" } : Jvm.MethodName) ({ cls := "java/lang/Throwable", name := "fillInStackTrace", desc := "(I)Ljava/lang/Throwable;" } : Jvm.MethodName)) ∈ lw_all := lw_g (lw_at lw_m5 57 rfl) rfl
theorem q1116 : (Jvm.Cond.lays "VowelChoir$Wrong" "java/lang/Throwable" "cause" "Ljava/lang/Throwable;") ∈ lw_all := lw_g (lw_at lw_m5 58 rfl) rfl
theorem q1117 : (Jvm.Cond.lays "VowelChoir$Wrong" "java/lang/Throwable" "stackTrace" "[Ljava/lang/StackTraceElement;") ∈ lw_all := lw_g (lw_at lw_m5 59 rfl) rfl
theorem q1118 : (Jvm.Cond.lays "VowelChoir$Wrong" "java/lang/Throwable" "suppressedExceptions" "Ljava/util/List;") ∈ lw_all := lw_g (lw_at lw_m5 60 rfl) rfl
theorem q1119 : (Jvm.Cond.lays "VowelChoir$Wrong" "java/lang/Throwable" "detailMessage" "Ljava/lang/String;") ∈ lw_all := lw_g (lw_at lw_m5 61 rfl) rfl
theorem q1120 : (Jvm.Cond.lays "VowelChoir$Wrong" "java/lang/Throwable" "backtrace" "Ljava/lang/Object;") ∈ lw_all := lw_g (lw_at lw_m5 62 rfl) rfl
theorem q1122 : (Jvm.Cond.instanceMethod ({ cls := "VowelChoir$Wrong", name := "<init>", desc := "(II)V" } : Jvm.MethodName)) ∈ lw_all := lw_g (lw_at lw_m5 64 rfl) rfl
theorem q1123 : (Jvm.Cond.code ({ cls := "VowelChoir$Wrong", name := "<init>", desc := "(II)V" } : Jvm.MethodName) prog_32_method_1_code (3 : Nat) (Option.none : Option Jvm.ClassFile.FieldType)) ∈ lw_all := lw_g (lw_at lw_m5 65 rfl) rfl
theorem q1124 : (Jvm.Cond.methodLink "VowelChoir$Wrong" (1 : Nat) ({ cls := "java/lang/Exception", name := "<init>", desc := "(Ljava/lang/String;Ljava/lang/Throwable;ZZ)V" } : Jvm.MethodName)) ∈ lw_all := lw_g (lw_at lw_m5 66 rfl) rfl
theorem q1130 : (Jvm.Cond.fieldLink "VowelChoir$Wrong" (7 : Nat) "VowelChoir$Wrong" "kind" "I") ∈ lw_all := lw_g (lw_at lw_m5 72 rfl) rfl
theorem q1132 : (Jvm.Cond.fieldLink "VowelChoir$Wrong" (13 : Nat) "VowelChoir$Wrong" "place" "I") ∈ lw_all := lw_g (lw_at lw_m5 74 rfl) rfl
theorem q1134 : (Jvm.Cond.laysFinal "VowelChoir$Wrong" "VowelChoir$Wrong" "kind" "I") ∈ lw_all := lw_g (lw_at lw_m5 76 rfl) rfl
theorem q1135 : (Jvm.Cond.soleField "VowelChoir$Wrong" "kind") ∈ lw_all := lw_g (lw_at lw_m5 77 rfl) rfl
theorem q1136 : (Jvm.Cond.laysFinal "VowelChoir$Wrong" "VowelChoir$Wrong" "place" "I") ∈ lw_all := lw_g (lw_at lw_m5 78 rfl) rfl
theorem q1137 : (Jvm.Cond.soleField "VowelChoir$Wrong" "place") ∈ lw_all := lw_g (lw_at lw_m5 79 rfl) rfl
theorem q1138 : (Jvm.Cond.lays "VowelChoir$Wrong" "java/lang/Throwable" "depth" "I") ∈ lw_all := lw_g (lw_at lw_m5 80 rfl) rfl
theorem q1139 : (Jvm.Cond.superclass "VowelChoir$Wrong" "java/lang/Exception") ∈ lw_all := lw_g (lw_at lw_m5 81 rfl) rfl
theorem q1230 : (Jvm.Cond.selects "VowelChoir$Wrong" ({ cls := "java/lang/Object", name := "getClass", desc := "()Ljava/lang/Class;" } : Jvm.MethodName) ({ cls := "java/lang/Object", name := "getClass", desc := "()Ljava/lang/Class;" } : Jvm.MethodName)) ∈ lw_all := lw_g (lw_at lw_m5 172 rfl) rfl
theorem q2646 : (Jvm.Cond.castable "VowelChoir$Wrong" "java/lang/Object") ∈ lw_tbl := lw_at lw_m11 148 rfl
theorem in_X9 : ∀ w ∈ wsX90, w ∈ lw_all := lw_in wsX90 [1116, 1117, 1118, 1119, 1120, 1138, 1134, 1136] (by decide +kernel) (by decide +kernel)
