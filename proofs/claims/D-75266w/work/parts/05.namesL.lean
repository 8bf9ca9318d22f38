/-! NoteImporterLaw -/
set_option maxRecDepth 100000
def RX0 : String := "NoteImporterLaw"
abbrev cX0_appendText : ByteArray := method_3_code
def yX0_appendText : MethodName := ⟨RX0, "appendText", "(LNoteImporter;I[J)I"⟩
def dkwX0_appendText_0 : List UInt8 := [44, 3, 42, 27, 182, 0, 7, 133, 80, 167, 0, 6, 78, 4, 172, 3, 172]
abbrev dktX0_appendText_0 : List UInt8 := dkwX0_appendText_0 ++ []
theorem dksX0_appendText_0 : cX0_appendText.data.toList.drop 0 = dktX0_appendText_0 := by decide +kernel
theorem dX0_appendText_0 : decode cX0_appendText 0 = .ok (.aload_n 2, 1) := dk_44 (dk_at dksX0_appendText_0 0 rfl rfl)
theorem dX0_appendText_1 : decode cX0_appendText 1 = .ok (.iconst 0, 1) := dk_3 (dk_at dksX0_appendText_0 1 rfl rfl)
theorem dX0_appendText_2 : decode cX0_appendText 2 = .ok (.aload_n 0, 1) := dk_42 (dk_at dksX0_appendText_0 2 rfl rfl)
theorem dX0_appendText_3 : decode cX0_appendText 3 = .ok (.iload_n 1, 1) := dk_27 (dk_at dksX0_appendText_0 3 rfl rfl)
theorem dX0_appendText_4 : decode cX0_appendText 4 = .ok (.invokevirtual 7, 3) := dk_182 0 7 (dk_at dksX0_appendText_0 4 rfl rfl)
theorem dX0_appendText_7 : decode cX0_appendText 7 = .ok (.i2l, 1) := dk_133 (dk_at dksX0_appendText_0 7 rfl rfl)
theorem dX0_appendText_8 : decode cX0_appendText 8 = .ok (.lastore, 1) := dk_80 (dk_at dksX0_appendText_0 8 rfl rfl)
theorem dX0_appendText_9 : decode cX0_appendText 9 = .ok (.goto 6, 3) := dk_167 0 6 (dk_at dksX0_appendText_0 9 rfl rfl)
theorem dX0_appendText_12 : decode cX0_appendText 12 = .ok (.astore_n 3, 1) := dk_78 (dk_at dksX0_appendText_0 12 rfl rfl)
theorem dX0_appendText_13 : decode cX0_appendText 13 = .ok (.iconst 1, 1) := dk_4 (dk_at dksX0_appendText_0 13 rfl rfl)
theorem dX0_appendText_14 : decode cX0_appendText 14 = .ok (.ireturn, 1) := dk_172 (dk_at dksX0_appendText_0 14 rfl rfl)
theorem dX0_appendText_15 : decode cX0_appendText 15 = .ok (.iconst 0, 1) := dk_3 (dk_at dksX0_appendText_0 15 rfl rfl)
theorem dX0_appendText_16 : decode cX0_appendText 16 = .ok (.ireturn, 1) := dk_172 (dk_at dksX0_appendText_0 16 rfl rfl)
abbrev cX0_truncateText : ByteArray := method_4_code
def yX0_truncateText : MethodName := ⟨RX0, "truncateText", "(LNoteImporter;I[J)I"⟩
def dkwX0_truncateText_0 : List UInt8 := [44, 3, 42, 27, 182, 0, 15, 133, 80, 167, 0, 6, 78, 4, 172, 3, 172]
abbrev dktX0_truncateText_0 : List UInt8 := dkwX0_truncateText_0 ++ []
theorem dksX0_truncateText_0 : cX0_truncateText.data.toList.drop 0 = dktX0_truncateText_0 := by decide +kernel
theorem dX0_truncateText_0 : decode cX0_truncateText 0 = .ok (.aload_n 2, 1) := dk_44 (dk_at dksX0_truncateText_0 0 rfl rfl)
theorem dX0_truncateText_1 : decode cX0_truncateText 1 = .ok (.iconst 0, 1) := dk_3 (dk_at dksX0_truncateText_0 1 rfl rfl)
theorem dX0_truncateText_2 : decode cX0_truncateText 2 = .ok (.aload_n 0, 1) := dk_42 (dk_at dksX0_truncateText_0 2 rfl rfl)
theorem dX0_truncateText_3 : decode cX0_truncateText 3 = .ok (.iload_n 1, 1) := dk_27 (dk_at dksX0_truncateText_0 3 rfl rfl)
theorem dX0_truncateText_4 : decode cX0_truncateText 4 = .ok (.invokevirtual 15, 3) := dk_182 0 15 (dk_at dksX0_truncateText_0 4 rfl rfl)
theorem dX0_truncateText_7 : decode cX0_truncateText 7 = .ok (.i2l, 1) := dk_133 (dk_at dksX0_truncateText_0 7 rfl rfl)
theorem dX0_truncateText_8 : decode cX0_truncateText 8 = .ok (.lastore, 1) := dk_80 (dk_at dksX0_truncateText_0 8 rfl rfl)
theorem dX0_truncateText_9 : decode cX0_truncateText 9 = .ok (.goto 6, 3) := dk_167 0 6 (dk_at dksX0_truncateText_0 9 rfl rfl)
theorem dX0_truncateText_12 : decode cX0_truncateText 12 = .ok (.astore_n 3, 1) := dk_78 (dk_at dksX0_truncateText_0 12 rfl rfl)
theorem dX0_truncateText_13 : decode cX0_truncateText 13 = .ok (.iconst 1, 1) := dk_4 (dk_at dksX0_truncateText_0 13 rfl rfl)
theorem dX0_truncateText_14 : decode cX0_truncateText 14 = .ok (.ireturn, 1) := dk_172 (dk_at dksX0_truncateText_0 14 rfl rfl)
theorem dX0_truncateText_15 : decode cX0_truncateText 15 = .ok (.iconst 0, 1) := dk_3 (dk_at dksX0_truncateText_0 15 rfl rfl)
theorem dX0_truncateText_16 : decode cX0_truncateText 16 = .ok (.ireturn, 1) := dk_172 (dk_at dksX0_truncateText_0 16 rfl rfl)
abbrev cX0_count : ByteArray := method_5_code
def yX0_count : MethodName := ⟨RX0, "count", "(LNoteImporter;I[J)I"⟩
def dkwX0_count_0 : List UInt8 := [44, 3, 42, 27, 182, 0, 20, 133, 80, 167, 0, 6, 78, 4, 172, 3, 172]
abbrev dktX0_count_0 : List UInt8 := dkwX0_count_0 ++ []
theorem dksX0_count_0 : cX0_count.data.toList.drop 0 = dktX0_count_0 := by decide +kernel
theorem dX0_count_0 : decode cX0_count 0 = .ok (.aload_n 2, 1) := dk_44 (dk_at dksX0_count_0 0 rfl rfl)
theorem dX0_count_1 : decode cX0_count 1 = .ok (.iconst 0, 1) := dk_3 (dk_at dksX0_count_0 1 rfl rfl)
theorem dX0_count_2 : decode cX0_count 2 = .ok (.aload_n 0, 1) := dk_42 (dk_at dksX0_count_0 2 rfl rfl)
theorem dX0_count_3 : decode cX0_count 3 = .ok (.iload_n 1, 1) := dk_27 (dk_at dksX0_count_0 3 rfl rfl)
theorem dX0_count_4 : decode cX0_count 4 = .ok (.invokevirtual 20, 3) := dk_182 0 20 (dk_at dksX0_count_0 4 rfl rfl)
theorem dX0_count_7 : decode cX0_count 7 = .ok (.i2l, 1) := dk_133 (dk_at dksX0_count_0 7 rfl rfl)
theorem dX0_count_8 : decode cX0_count 8 = .ok (.lastore, 1) := dk_80 (dk_at dksX0_count_0 8 rfl rfl)
theorem dX0_count_9 : decode cX0_count 9 = .ok (.goto 6, 3) := dk_167 0 6 (dk_at dksX0_count_0 9 rfl rfl)
theorem dX0_count_12 : decode cX0_count 12 = .ok (.astore_n 3, 1) := dk_78 (dk_at dksX0_count_0 12 rfl rfl)
theorem dX0_count_13 : decode cX0_count 13 = .ok (.iconst 1, 1) := dk_4 (dk_at dksX0_count_0 13 rfl rfl)
theorem dX0_count_14 : decode cX0_count 14 = .ok (.ireturn, 1) := dk_172 (dk_at dksX0_count_0 14 rfl rfl)
theorem dX0_count_15 : decode cX0_count 15 = .ok (.iconst 0, 1) := dk_3 (dk_at dksX0_count_0 15 rfl rfl)
theorem dX0_count_16 : decode cX0_count 16 = .ok (.ireturn, 1) := dk_172 (dk_at dksX0_count_0 16 rfl rfl)
abbrev cX0_addEdition : ByteArray := method_6_code
def yX0_addEdition : MethodName := ⟨RX0, "addEdition", "(LNoteImporter;II[J)I"⟩
def dkwX0_addEdition_0 : List UInt8 := [45, 3, 42, 27, 28, 182, 0, 23, 133, 80, 167, 0, 11, 58, 4, 4, 172, 58, 4, 5, 172, 3, 172]
abbrev dktX0_addEdition_0 : List UInt8 := dkwX0_addEdition_0 ++ []
theorem dksX0_addEdition_0 : cX0_addEdition.data.toList.drop 0 = dktX0_addEdition_0 := by decide +kernel
theorem dX0_addEdition_0 : decode cX0_addEdition 0 = .ok (.aload_n 3, 1) := dk_45 (dk_at dksX0_addEdition_0 0 rfl rfl)
theorem dX0_addEdition_1 : decode cX0_addEdition 1 = .ok (.iconst 0, 1) := dk_3 (dk_at dksX0_addEdition_0 1 rfl rfl)
theorem dX0_addEdition_2 : decode cX0_addEdition 2 = .ok (.aload_n 0, 1) := dk_42 (dk_at dksX0_addEdition_0 2 rfl rfl)
theorem dX0_addEdition_3 : decode cX0_addEdition 3 = .ok (.iload_n 1, 1) := dk_27 (dk_at dksX0_addEdition_0 3 rfl rfl)
theorem dX0_addEdition_4 : decode cX0_addEdition 4 = .ok (.iload_n 2, 1) := dk_28 (dk_at dksX0_addEdition_0 4 rfl rfl)
theorem dX0_addEdition_5 : decode cX0_addEdition 5 = .ok (.invokevirtual 23, 3) := dk_182 0 23 (dk_at dksX0_addEdition_0 5 rfl rfl)
theorem dX0_addEdition_8 : decode cX0_addEdition 8 = .ok (.i2l, 1) := dk_133 (dk_at dksX0_addEdition_0 8 rfl rfl)
theorem dX0_addEdition_9 : decode cX0_addEdition 9 = .ok (.lastore, 1) := dk_80 (dk_at dksX0_addEdition_0 9 rfl rfl)
theorem dX0_addEdition_10 : decode cX0_addEdition 10 = .ok (.goto 11, 3) := dk_167 0 11 (dk_at dksX0_addEdition_0 10 rfl rfl)
theorem dX0_addEdition_13 : decode cX0_addEdition 13 = .ok (.astore 4, 2) := dk_58 4 (dk_at dksX0_addEdition_0 13 rfl rfl)
theorem dX0_addEdition_15 : decode cX0_addEdition 15 = .ok (.iconst 1, 1) := dk_4 (dk_at dksX0_addEdition_0 15 rfl rfl)
theorem dX0_addEdition_16 : decode cX0_addEdition 16 = .ok (.ireturn, 1) := dk_172 (dk_at dksX0_addEdition_0 16 rfl rfl)
theorem dX0_addEdition_17 : decode cX0_addEdition 17 = .ok (.astore 4, 2) := dk_58 4 (dk_at dksX0_addEdition_0 17 rfl rfl)
theorem dX0_addEdition_19 : decode cX0_addEdition 19 = .ok (.iconst 2, 1) := dk_5 (dk_at dksX0_addEdition_0 19 rfl rfl)
theorem dX0_addEdition_20 : decode cX0_addEdition 20 = .ok (.ireturn, 1) := dk_172 (dk_at dksX0_addEdition_0 20 rfl rfl)
theorem dX0_addEdition_21 : decode cX0_addEdition 21 = .ok (.iconst 0, 1) := dk_3 (dk_at dksX0_addEdition_0 21 rfl rfl)
theorem dX0_addEdition_22 : decode cX0_addEdition 22 = .ok (.ireturn, 1) := dk_172 (dk_at dksX0_addEdition_0 22 rfl rfl)
abbrev cX0_setLayout : ByteArray := method_7_code
def yX0_setLayout : MethodName := ⟨RX0, "setLayout", "(LNoteImporter;III[J)I"⟩
def dkwX0_setLayout_1 : List UInt8 := [172]
abbrev dktX0_setLayout_1 : List UInt8 := dkwX0_setLayout_1 ++ []
def dkwX0_setLayout_0 : List UInt8 := [25, 4, 3, 42, 27, 28, 29, 182, 0, 27, 133, 80, 167, 0, 11, 58, 5, 4, 172, 58, 5, 5, 172, 3]
abbrev dktX0_setLayout_0 : List UInt8 := dkwX0_setLayout_0 ++ dktX0_setLayout_1
theorem dksX0_setLayout_0 : cX0_setLayout.data.toList.drop 0 = dktX0_setLayout_0 := by decide +kernel
theorem dksX0_setLayout_1 : cX0_setLayout.data.toList.drop 24 = dktX0_setLayout_1 := dk_seg dksX0_setLayout_0 24 rfl rfl
theorem dX0_setLayout_0 : decode cX0_setLayout 0 = .ok (.aload 4, 2) := dk_25 4 (dk_at dksX0_setLayout_0 0 rfl rfl)
theorem dX0_setLayout_2 : decode cX0_setLayout 2 = .ok (.iconst 0, 1) := dk_3 (dk_at dksX0_setLayout_0 2 rfl rfl)
theorem dX0_setLayout_3 : decode cX0_setLayout 3 = .ok (.aload_n 0, 1) := dk_42 (dk_at dksX0_setLayout_0 3 rfl rfl)
theorem dX0_setLayout_4 : decode cX0_setLayout 4 = .ok (.iload_n 1, 1) := dk_27 (dk_at dksX0_setLayout_0 4 rfl rfl)
theorem dX0_setLayout_5 : decode cX0_setLayout 5 = .ok (.iload_n 2, 1) := dk_28 (dk_at dksX0_setLayout_0 5 rfl rfl)
theorem dX0_setLayout_6 : decode cX0_setLayout 6 = .ok (.iload_n 3, 1) := dk_29 (dk_at dksX0_setLayout_0 6 rfl rfl)
theorem dX0_setLayout_7 : decode cX0_setLayout 7 = .ok (.invokevirtual 27, 3) := dk_182 0 27 (dk_at dksX0_setLayout_0 7 rfl rfl)
theorem dX0_setLayout_10 : decode cX0_setLayout 10 = .ok (.i2l, 1) := dk_133 (dk_at dksX0_setLayout_0 10 rfl rfl)
theorem dX0_setLayout_11 : decode cX0_setLayout 11 = .ok (.lastore, 1) := dk_80 (dk_at dksX0_setLayout_0 11 rfl rfl)
theorem dX0_setLayout_12 : decode cX0_setLayout 12 = .ok (.goto 11, 3) := dk_167 0 11 (dk_at dksX0_setLayout_0 12 rfl rfl)
theorem dX0_setLayout_15 : decode cX0_setLayout 15 = .ok (.astore 5, 2) := dk_58 5 (dk_at dksX0_setLayout_0 15 rfl rfl)
theorem dX0_setLayout_17 : decode cX0_setLayout 17 = .ok (.iconst 1, 1) := dk_4 (dk_at dksX0_setLayout_0 17 rfl rfl)
theorem dX0_setLayout_18 : decode cX0_setLayout 18 = .ok (.ireturn, 1) := dk_172 (dk_at dksX0_setLayout_0 18 rfl rfl)
theorem dX0_setLayout_19 : decode cX0_setLayout 19 = .ok (.astore 5, 2) := dk_58 5 (dk_at dksX0_setLayout_0 19 rfl rfl)
theorem dX0_setLayout_21 : decode cX0_setLayout 21 = .ok (.iconst 2, 1) := dk_5 (dk_at dksX0_setLayout_0 21 rfl rfl)
theorem dX0_setLayout_22 : decode cX0_setLayout 22 = .ok (.ireturn, 1) := dk_172 (dk_at dksX0_setLayout_0 22 rfl rfl)
theorem dX0_setLayout_23 : decode cX0_setLayout 23 = .ok (.iconst 0, 1) := dk_3 (dk_at dksX0_setLayout_0 23 rfl rfl)
theorem dX0_setLayout_24 : decode cX0_setLayout 24 = .ok (.ireturn, 1) := dk_172 (dk_at dksX0_setLayout_1 0 rfl rfl)
abbrev cX0_edition : ByteArray := method_8_code
def yX0_edition : MethodName := ⟨RX0, "edition", "(LNoteImporter;II[J)I"⟩
def dkwX0_edition_0 : List UInt8 := [45, 3, 42, 27, 28, 182, 0, 33, 133, 80, 167, 0, 11, 58, 4, 4, 172, 58, 4, 5, 172, 3, 172]
abbrev dktX0_edition_0 : List UInt8 := dkwX0_edition_0 ++ []
theorem dksX0_edition_0 : cX0_edition.data.toList.drop 0 = dktX0_edition_0 := by decide +kernel
theorem dX0_edition_0 : decode cX0_edition 0 = .ok (.aload_n 3, 1) := dk_45 (dk_at dksX0_edition_0 0 rfl rfl)
theorem dX0_edition_1 : decode cX0_edition 1 = .ok (.iconst 0, 1) := dk_3 (dk_at dksX0_edition_0 1 rfl rfl)
theorem dX0_edition_2 : decode cX0_edition 2 = .ok (.aload_n 0, 1) := dk_42 (dk_at dksX0_edition_0 2 rfl rfl)
theorem dX0_edition_3 : decode cX0_edition 3 = .ok (.iload_n 1, 1) := dk_27 (dk_at dksX0_edition_0 3 rfl rfl)
theorem dX0_edition_4 : decode cX0_edition 4 = .ok (.iload_n 2, 1) := dk_28 (dk_at dksX0_edition_0 4 rfl rfl)
theorem dX0_edition_5 : decode cX0_edition 5 = .ok (.invokevirtual 33, 3) := dk_182 0 33 (dk_at dksX0_edition_0 5 rfl rfl)
theorem dX0_edition_8 : decode cX0_edition 8 = .ok (.i2l, 1) := dk_133 (dk_at dksX0_edition_0 8 rfl rfl)
theorem dX0_edition_9 : decode cX0_edition 9 = .ok (.lastore, 1) := dk_80 (dk_at dksX0_edition_0 9 rfl rfl)
theorem dX0_edition_10 : decode cX0_edition 10 = .ok (.goto 11, 3) := dk_167 0 11 (dk_at dksX0_edition_0 10 rfl rfl)
theorem dX0_edition_13 : decode cX0_edition 13 = .ok (.astore 4, 2) := dk_58 4 (dk_at dksX0_edition_0 13 rfl rfl)
theorem dX0_edition_15 : decode cX0_edition 15 = .ok (.iconst 1, 1) := dk_4 (dk_at dksX0_edition_0 15 rfl rfl)
theorem dX0_edition_16 : decode cX0_edition 16 = .ok (.ireturn, 1) := dk_172 (dk_at dksX0_edition_0 16 rfl rfl)
theorem dX0_edition_17 : decode cX0_edition 17 = .ok (.astore 4, 2) := dk_58 4 (dk_at dksX0_edition_0 17 rfl rfl)
theorem dX0_edition_19 : decode cX0_edition 19 = .ok (.iconst 2, 1) := dk_5 (dk_at dksX0_edition_0 19 rfl rfl)
theorem dX0_edition_20 : decode cX0_edition 20 = .ok (.ireturn, 1) := dk_172 (dk_at dksX0_edition_0 20 rfl rfl)
theorem dX0_edition_21 : decode cX0_edition 21 = .ok (.iconst 0, 1) := dk_3 (dk_at dksX0_edition_0 21 rfl rfl)
theorem dX0_edition_22 : decode cX0_edition 22 = .ok (.ireturn, 1) := dk_172 (dk_at dksX0_edition_0 22 rfl rfl)
abbrev cX0_word : ByteArray := method_9_code
def yX0_word : MethodName := ⟨RX0, "word", "(LNoteImporter;III[J)I"⟩
def dkwX0_word_1 : List UInt8 := [172]
abbrev dktX0_word_1 : List UInt8 := dkwX0_word_1 ++ []
def dkwX0_word_0 : List UInt8 := [25, 4, 3, 42, 27, 28, 29, 182, 0, 36, 133, 80, 167, 0, 11, 58, 5, 4, 172, 58, 5, 5, 172, 3]
abbrev dktX0_word_0 : List UInt8 := dkwX0_word_0 ++ dktX0_word_1
theorem dksX0_word_0 : cX0_word.data.toList.drop 0 = dktX0_word_0 := by decide +kernel
theorem dksX0_word_1 : cX0_word.data.toList.drop 24 = dktX0_word_1 := dk_seg dksX0_word_0 24 rfl rfl
theorem dX0_word_0 : decode cX0_word 0 = .ok (.aload 4, 2) := dk_25 4 (dk_at dksX0_word_0 0 rfl rfl)
theorem dX0_word_2 : decode cX0_word 2 = .ok (.iconst 0, 1) := dk_3 (dk_at dksX0_word_0 2 rfl rfl)
theorem dX0_word_3 : decode cX0_word 3 = .ok (.aload_n 0, 1) := dk_42 (dk_at dksX0_word_0 3 rfl rfl)
theorem dX0_word_4 : decode cX0_word 4 = .ok (.iload_n 1, 1) := dk_27 (dk_at dksX0_word_0 4 rfl rfl)
theorem dX0_word_5 : decode cX0_word 5 = .ok (.iload_n 2, 1) := dk_28 (dk_at dksX0_word_0 5 rfl rfl)
theorem dX0_word_6 : decode cX0_word 6 = .ok (.iload_n 3, 1) := dk_29 (dk_at dksX0_word_0 6 rfl rfl)
theorem dX0_word_7 : decode cX0_word 7 = .ok (.invokevirtual 36, 3) := dk_182 0 36 (dk_at dksX0_word_0 7 rfl rfl)
theorem dX0_word_10 : decode cX0_word 10 = .ok (.i2l, 1) := dk_133 (dk_at dksX0_word_0 10 rfl rfl)
theorem dX0_word_11 : decode cX0_word 11 = .ok (.lastore, 1) := dk_80 (dk_at dksX0_word_0 11 rfl rfl)
theorem dX0_word_12 : decode cX0_word 12 = .ok (.goto 11, 3) := dk_167 0 11 (dk_at dksX0_word_0 12 rfl rfl)
theorem dX0_word_15 : decode cX0_word 15 = .ok (.astore 5, 2) := dk_58 5 (dk_at dksX0_word_0 15 rfl rfl)
theorem dX0_word_17 : decode cX0_word 17 = .ok (.iconst 1, 1) := dk_4 (dk_at dksX0_word_0 17 rfl rfl)
theorem dX0_word_18 : decode cX0_word 18 = .ok (.ireturn, 1) := dk_172 (dk_at dksX0_word_0 18 rfl rfl)
theorem dX0_word_19 : decode cX0_word 19 = .ok (.astore 5, 2) := dk_58 5 (dk_at dksX0_word_0 19 rfl rfl)
theorem dX0_word_21 : decode cX0_word 21 = .ok (.iconst 2, 1) := dk_5 (dk_at dksX0_word_0 21 rfl rfl)
theorem dX0_word_22 : decode cX0_word 22 = .ok (.ireturn, 1) := dk_172 (dk_at dksX0_word_0 22 rfl rfl)
theorem dX0_word_23 : decode cX0_word 23 = .ok (.iconst 0, 1) := dk_3 (dk_at dksX0_word_0 23 rfl rfl)
theorem dX0_word_24 : decode cX0_word 24 = .ok (.ireturn, 1) := dk_172 (dk_at dksX0_word_1 0 rfl rfl)
abbrev cX0_letter : ByteArray := method_10_code
def yX0_letter : MethodName := ⟨RX0, "letter", "(LNoteImporter;III[J)I"⟩
def dkwX0_letter_0 : List UInt8 := [25, 4, 3, 42, 27, 28, 29, 182, 0, 39, 133, 80, 167, 0, 7, 58, 5, 4, 172, 3, 172]
abbrev dktX0_letter_0 : List UInt8 := dkwX0_letter_0 ++ []
theorem dksX0_letter_0 : cX0_letter.data.toList.drop 0 = dktX0_letter_0 := by decide +kernel
theorem dX0_letter_0 : decode cX0_letter 0 = .ok (.aload 4, 2) := dk_25 4 (dk_at dksX0_letter_0 0 rfl rfl)
theorem dX0_letter_2 : decode cX0_letter 2 = .ok (.iconst 0, 1) := dk_3 (dk_at dksX0_letter_0 2 rfl rfl)
theorem dX0_letter_3 : decode cX0_letter 3 = .ok (.aload_n 0, 1) := dk_42 (dk_at dksX0_letter_0 3 rfl rfl)
theorem dX0_letter_4 : decode cX0_letter 4 = .ok (.iload_n 1, 1) := dk_27 (dk_at dksX0_letter_0 4 rfl rfl)
theorem dX0_letter_5 : decode cX0_letter 5 = .ok (.iload_n 2, 1) := dk_28 (dk_at dksX0_letter_0 5 rfl rfl)
theorem dX0_letter_6 : decode cX0_letter 6 = .ok (.iload_n 3, 1) := dk_29 (dk_at dksX0_letter_0 6 rfl rfl)
theorem dX0_letter_7 : decode cX0_letter 7 = .ok (.invokevirtual 39, 3) := dk_182 0 39 (dk_at dksX0_letter_0 7 rfl rfl)
theorem dX0_letter_10 : decode cX0_letter 10 = .ok (.i2l, 1) := dk_133 (dk_at dksX0_letter_0 10 rfl rfl)
theorem dX0_letter_11 : decode cX0_letter 11 = .ok (.lastore, 1) := dk_80 (dk_at dksX0_letter_0 11 rfl rfl)
theorem dX0_letter_12 : decode cX0_letter 12 = .ok (.goto 7, 3) := dk_167 0 7 (dk_at dksX0_letter_0 12 rfl rfl)
theorem dX0_letter_15 : decode cX0_letter 15 = .ok (.astore 5, 2) := dk_58 5 (dk_at dksX0_letter_0 15 rfl rfl)
theorem dX0_letter_17 : decode cX0_letter 17 = .ok (.iconst 1, 1) := dk_4 (dk_at dksX0_letter_0 17 rfl rfl)
theorem dX0_letter_18 : decode cX0_letter 18 = .ok (.ireturn, 1) := dk_172 (dk_at dksX0_letter_0 18 rfl rfl)
theorem dX0_letter_19 : decode cX0_letter 19 = .ok (.iconst 0, 1) := dk_3 (dk_at dksX0_letter_0 19 rfl rfl)
theorem dX0_letter_20 : decode cX0_letter 20 = .ok (.ireturn, 1) := dk_172 (dk_at dksX0_letter_0 20 rfl rfl)
abbrev cX0_insertWord : ByteArray := method_11_code
def yX0_insertWord : MethodName := ⟨RX0, "insertWord", "(LNoteImporter;II[J)I"⟩
def dkwX0_insertWord_1 : List UInt8 := [172, 3, 172]
abbrev dktX0_insertWord_1 : List UInt8 := dkwX0_insertWord_1 ++ []
def dkwX0_insertWord_0 : List UInt8 := [45, 3, 42, 27, 28, 182, 0, 42, 133, 80, 167, 0, 15, 58, 4, 4, 172, 58, 4, 5, 172, 58, 4, 6]
abbrev dktX0_insertWord_0 : List UInt8 := dkwX0_insertWord_0 ++ dktX0_insertWord_1
theorem dksX0_insertWord_0 : cX0_insertWord.data.toList.drop 0 = dktX0_insertWord_0 := by decide +kernel
theorem dksX0_insertWord_1 : cX0_insertWord.data.toList.drop 24 = dktX0_insertWord_1 := dk_seg dksX0_insertWord_0 24 rfl rfl
theorem dX0_insertWord_0 : decode cX0_insertWord 0 = .ok (.aload_n 3, 1) := dk_45 (dk_at dksX0_insertWord_0 0 rfl rfl)
theorem dX0_insertWord_1 : decode cX0_insertWord 1 = .ok (.iconst 0, 1) := dk_3 (dk_at dksX0_insertWord_0 1 rfl rfl)
theorem dX0_insertWord_2 : decode cX0_insertWord 2 = .ok (.aload_n 0, 1) := dk_42 (dk_at dksX0_insertWord_0 2 rfl rfl)
theorem dX0_insertWord_3 : decode cX0_insertWord 3 = .ok (.iload_n 1, 1) := dk_27 (dk_at dksX0_insertWord_0 3 rfl rfl)
theorem dX0_insertWord_4 : decode cX0_insertWord 4 = .ok (.iload_n 2, 1) := dk_28 (dk_at dksX0_insertWord_0 4 rfl rfl)
theorem dX0_insertWord_5 : decode cX0_insertWord 5 = .ok (.invokevirtual 42, 3) := dk_182 0 42 (dk_at dksX0_insertWord_0 5 rfl rfl)
theorem dX0_insertWord_8 : decode cX0_insertWord 8 = .ok (.i2l, 1) := dk_133 (dk_at dksX0_insertWord_0 8 rfl rfl)
theorem dX0_insertWord_9 : decode cX0_insertWord 9 = .ok (.lastore, 1) := dk_80 (dk_at dksX0_insertWord_0 9 rfl rfl)
theorem dX0_insertWord_10 : decode cX0_insertWord 10 = .ok (.goto 15, 3) := dk_167 0 15 (dk_at dksX0_insertWord_0 10 rfl rfl)
theorem dX0_insertWord_13 : decode cX0_insertWord 13 = .ok (.astore 4, 2) := dk_58 4 (dk_at dksX0_insertWord_0 13 rfl rfl)
theorem dX0_insertWord_15 : decode cX0_insertWord 15 = .ok (.iconst 1, 1) := dk_4 (dk_at dksX0_insertWord_0 15 rfl rfl)
theorem dX0_insertWord_16 : decode cX0_insertWord 16 = .ok (.ireturn, 1) := dk_172 (dk_at dksX0_insertWord_0 16 rfl rfl)
theorem dX0_insertWord_17 : decode cX0_insertWord 17 = .ok (.astore 4, 2) := dk_58 4 (dk_at dksX0_insertWord_0 17 rfl rfl)
theorem dX0_insertWord_19 : decode cX0_insertWord 19 = .ok (.iconst 2, 1) := dk_5 (dk_at dksX0_insertWord_0 19 rfl rfl)
theorem dX0_insertWord_20 : decode cX0_insertWord 20 = .ok (.ireturn, 1) := dk_172 (dk_at dksX0_insertWord_0 20 rfl rfl)
theorem dX0_insertWord_21 : decode cX0_insertWord 21 = .ok (.astore 4, 2) := dk_58 4 (dk_at dksX0_insertWord_0 21 rfl rfl)
theorem dX0_insertWord_23 : decode cX0_insertWord 23 = .ok (.iconst 3, 1) := dk_6 (dk_at dksX0_insertWord_0 23 rfl rfl)
theorem dX0_insertWord_24 : decode cX0_insertWord 24 = .ok (.ireturn, 1) := dk_172 (dk_at dksX0_insertWord_1 0 rfl rfl)
theorem dX0_insertWord_25 : decode cX0_insertWord 25 = .ok (.iconst 0, 1) := dk_3 (dk_at dksX0_insertWord_1 1 rfl rfl)
theorem dX0_insertWord_26 : decode cX0_insertWord 26 = .ok (.ireturn, 1) := dk_172 (dk_at dksX0_insertWord_1 2 rfl rfl)
abbrev cX0_deleteWord : ByteArray := method_12_code
def yX0_deleteWord : MethodName := ⟨RX0, "deleteWord", "(LNoteImporter;II[J)I"⟩
def dkwX0_deleteWord_0 : List UInt8 := [45, 3, 42, 27, 28, 182, 0, 45, 133, 80, 167, 0, 11, 58, 4, 4, 172, 58, 4, 5, 172, 3, 172]
abbrev dktX0_deleteWord_0 : List UInt8 := dkwX0_deleteWord_0 ++ []
theorem dksX0_deleteWord_0 : cX0_deleteWord.data.toList.drop 0 = dktX0_deleteWord_0 := by decide +kernel
theorem dX0_deleteWord_0 : decode cX0_deleteWord 0 = .ok (.aload_n 3, 1) := dk_45 (dk_at dksX0_deleteWord_0 0 rfl rfl)
theorem dX0_deleteWord_1 : decode cX0_deleteWord 1 = .ok (.iconst 0, 1) := dk_3 (dk_at dksX0_deleteWord_0 1 rfl rfl)
theorem dX0_deleteWord_2 : decode cX0_deleteWord 2 = .ok (.aload_n 0, 1) := dk_42 (dk_at dksX0_deleteWord_0 2 rfl rfl)
theorem dX0_deleteWord_3 : decode cX0_deleteWord 3 = .ok (.iload_n 1, 1) := dk_27 (dk_at dksX0_deleteWord_0 3 rfl rfl)
theorem dX0_deleteWord_4 : decode cX0_deleteWord 4 = .ok (.iload_n 2, 1) := dk_28 (dk_at dksX0_deleteWord_0 4 rfl rfl)
theorem dX0_deleteWord_5 : decode cX0_deleteWord 5 = .ok (.invokevirtual 45, 3) := dk_182 0 45 (dk_at dksX0_deleteWord_0 5 rfl rfl)
theorem dX0_deleteWord_8 : decode cX0_deleteWord 8 = .ok (.i2l, 1) := dk_133 (dk_at dksX0_deleteWord_0 8 rfl rfl)
theorem dX0_deleteWord_9 : decode cX0_deleteWord 9 = .ok (.lastore, 1) := dk_80 (dk_at dksX0_deleteWord_0 9 rfl rfl)
theorem dX0_deleteWord_10 : decode cX0_deleteWord 10 = .ok (.goto 11, 3) := dk_167 0 11 (dk_at dksX0_deleteWord_0 10 rfl rfl)
theorem dX0_deleteWord_13 : decode cX0_deleteWord 13 = .ok (.astore 4, 2) := dk_58 4 (dk_at dksX0_deleteWord_0 13 rfl rfl)
theorem dX0_deleteWord_15 : decode cX0_deleteWord 15 = .ok (.iconst 1, 1) := dk_4 (dk_at dksX0_deleteWord_0 15 rfl rfl)
theorem dX0_deleteWord_16 : decode cX0_deleteWord 16 = .ok (.ireturn, 1) := dk_172 (dk_at dksX0_deleteWord_0 16 rfl rfl)
theorem dX0_deleteWord_17 : decode cX0_deleteWord 17 = .ok (.astore 4, 2) := dk_58 4 (dk_at dksX0_deleteWord_0 17 rfl rfl)
theorem dX0_deleteWord_19 : decode cX0_deleteWord 19 = .ok (.iconst 2, 1) := dk_5 (dk_at dksX0_deleteWord_0 19 rfl rfl)
theorem dX0_deleteWord_20 : decode cX0_deleteWord 20 = .ok (.ireturn, 1) := dk_172 (dk_at dksX0_deleteWord_0 20 rfl rfl)
theorem dX0_deleteWord_21 : decode cX0_deleteWord 21 = .ok (.iconst 0, 1) := dk_3 (dk_at dksX0_deleteWord_0 21 rfl rfl)
theorem dX0_deleteWord_22 : decode cX0_deleteWord 22 = .ok (.ireturn, 1) := dk_172 (dk_at dksX0_deleteWord_0 22 rfl rfl)
abbrev cX0_setParagraph : ByteArray := method_13_code
def yX0_setParagraph : MethodName := ⟨RX0, "setParagraph", "(LNoteImporter;IIZ[J)I"⟩
def dkwX0_setParagraph_1 : List UInt8 := [4, 172, 3, 172]
abbrev dktX0_setParagraph_1 : List UInt8 := dkwX0_setParagraph_1 ++ []
def dkwX0_setParagraph_0 : List UInt8 := [25, 4, 3, 42, 27, 28, 29, 182, 0, 48, 153, 0, 7, 10, 167, 0, 4, 9, 80, 167, 0, 7, 58, 5]
abbrev dktX0_setParagraph_0 : List UInt8 := dkwX0_setParagraph_0 ++ dktX0_setParagraph_1
theorem dksX0_setParagraph_0 : cX0_setParagraph.data.toList.drop 0 = dktX0_setParagraph_0 := by decide +kernel
theorem dksX0_setParagraph_1 : cX0_setParagraph.data.toList.drop 24 = dktX0_setParagraph_1 := dk_seg dksX0_setParagraph_0 24 rfl rfl
theorem dX0_setParagraph_0 : decode cX0_setParagraph 0 = .ok (.aload 4, 2) := dk_25 4 (dk_at dksX0_setParagraph_0 0 rfl rfl)
theorem dX0_setParagraph_2 : decode cX0_setParagraph 2 = .ok (.iconst 0, 1) := dk_3 (dk_at dksX0_setParagraph_0 2 rfl rfl)
theorem dX0_setParagraph_3 : decode cX0_setParagraph 3 = .ok (.aload_n 0, 1) := dk_42 (dk_at dksX0_setParagraph_0 3 rfl rfl)
theorem dX0_setParagraph_4 : decode cX0_setParagraph 4 = .ok (.iload_n 1, 1) := dk_27 (dk_at dksX0_setParagraph_0 4 rfl rfl)
theorem dX0_setParagraph_5 : decode cX0_setParagraph 5 = .ok (.iload_n 2, 1) := dk_28 (dk_at dksX0_setParagraph_0 5 rfl rfl)
theorem dX0_setParagraph_6 : decode cX0_setParagraph 6 = .ok (.iload_n 3, 1) := dk_29 (dk_at dksX0_setParagraph_0 6 rfl rfl)
theorem dX0_setParagraph_7 : decode cX0_setParagraph 7 = .ok (.invokevirtual 48, 3) := dk_182 0 48 (dk_at dksX0_setParagraph_0 7 rfl rfl)
theorem dX0_setParagraph_10 : decode cX0_setParagraph 10 = .ok (.ifCond .eq 7, 3) := dk_153 0 7 (dk_at dksX0_setParagraph_0 10 rfl rfl)
theorem dX0_setParagraph_13 : decode cX0_setParagraph 13 = .ok (.lconst 1, 1) := dk_10 (dk_at dksX0_setParagraph_0 13 rfl rfl)
theorem dX0_setParagraph_14 : decode cX0_setParagraph 14 = .ok (.goto 4, 3) := dk_167 0 4 (dk_at dksX0_setParagraph_0 14 rfl rfl)
theorem dX0_setParagraph_17 : decode cX0_setParagraph 17 = .ok (.lconst 0, 1) := dk_9 (dk_at dksX0_setParagraph_0 17 rfl rfl)
theorem dX0_setParagraph_18 : decode cX0_setParagraph 18 = .ok (.lastore, 1) := dk_80 (dk_at dksX0_setParagraph_0 18 rfl rfl)
theorem dX0_setParagraph_19 : decode cX0_setParagraph 19 = .ok (.goto 7, 3) := dk_167 0 7 (dk_at dksX0_setParagraph_0 19 rfl rfl)
theorem dX0_setParagraph_22 : decode cX0_setParagraph 22 = .ok (.astore 5, 2) := dk_58 5 (dk_at dksX0_setParagraph_0 22 rfl rfl)
theorem dX0_setParagraph_24 : decode cX0_setParagraph 24 = .ok (.iconst 1, 1) := dk_4 (dk_at dksX0_setParagraph_1 0 rfl rfl)
theorem dX0_setParagraph_25 : decode cX0_setParagraph 25 = .ok (.ireturn, 1) := dk_172 (dk_at dksX0_setParagraph_1 1 rfl rfl)
theorem dX0_setParagraph_26 : decode cX0_setParagraph 26 = .ok (.iconst 0, 1) := dk_3 (dk_at dksX0_setParagraph_1 2 rfl rfl)
theorem dX0_setParagraph_27 : decode cX0_setParagraph 27 = .ok (.ireturn, 1) := dk_172 (dk_at dksX0_setParagraph_1 3 rfl rfl)
abbrev cX0_setTarget : ByteArray := method_14_code
def yX0_setTarget : MethodName := ⟨RX0, "setTarget", "(LNoteImporter;I[J)I"⟩
def dkwX0_setTarget_0 : List UInt8 := [44, 3, 42, 27, 182, 0, 52, 133, 80, 167, 0, 6, 78, 4, 172, 3, 172]
abbrev dktX0_setTarget_0 : List UInt8 := dkwX0_setTarget_0 ++ []
theorem dksX0_setTarget_0 : cX0_setTarget.data.toList.drop 0 = dktX0_setTarget_0 := by decide +kernel
theorem dX0_setTarget_0 : decode cX0_setTarget 0 = .ok (.aload_n 2, 1) := dk_44 (dk_at dksX0_setTarget_0 0 rfl rfl)
theorem dX0_setTarget_1 : decode cX0_setTarget 1 = .ok (.iconst 0, 1) := dk_3 (dk_at dksX0_setTarget_0 1 rfl rfl)
theorem dX0_setTarget_2 : decode cX0_setTarget 2 = .ok (.aload_n 0, 1) := dk_42 (dk_at dksX0_setTarget_0 2 rfl rfl)
theorem dX0_setTarget_3 : decode cX0_setTarget 3 = .ok (.iload_n 1, 1) := dk_27 (dk_at dksX0_setTarget_0 3 rfl rfl)
theorem dX0_setTarget_4 : decode cX0_setTarget 4 = .ok (.invokevirtual 52, 3) := dk_182 0 52 (dk_at dksX0_setTarget_0 4 rfl rfl)
theorem dX0_setTarget_7 : decode cX0_setTarget 7 = .ok (.i2l, 1) := dk_133 (dk_at dksX0_setTarget_0 7 rfl rfl)
theorem dX0_setTarget_8 : decode cX0_setTarget 8 = .ok (.lastore, 1) := dk_80 (dk_at dksX0_setTarget_0 8 rfl rfl)
theorem dX0_setTarget_9 : decode cX0_setTarget 9 = .ok (.goto 6, 3) := dk_167 0 6 (dk_at dksX0_setTarget_0 9 rfl rfl)
theorem dX0_setTarget_12 : decode cX0_setTarget 12 = .ok (.astore_n 3, 1) := dk_78 (dk_at dksX0_setTarget_0 12 rfl rfl)
theorem dX0_setTarget_13 : decode cX0_setTarget 13 = .ok (.iconst 1, 1) := dk_4 (dk_at dksX0_setTarget_0 13 rfl rfl)
theorem dX0_setTarget_14 : decode cX0_setTarget 14 = .ok (.ireturn, 1) := dk_172 (dk_at dksX0_setTarget_0 14 rfl rfl)
theorem dX0_setTarget_15 : decode cX0_setTarget 15 = .ok (.iconst 0, 1) := dk_3 (dk_at dksX0_setTarget_0 15 rfl rfl)
theorem dX0_setTarget_16 : decode cX0_setTarget 16 = .ok (.ireturn, 1) := dk_172 (dk_at dksX0_setTarget_0 16 rfl rfl)
abbrev cX0_addReader : ByteArray := method_15_code
def yX0_addReader : MethodName := ⟨RX0, "addReader", "(LNoteImporter;[J)I"⟩
def dkwX0_addReader_0 : List UInt8 := [43, 3, 42, 182, 0, 55, 133, 80, 167, 0, 9, 77, 4, 172, 77, 5, 172, 3, 172]
abbrev dktX0_addReader_0 : List UInt8 := dkwX0_addReader_0 ++ []
theorem dksX0_addReader_0 : cX0_addReader.data.toList.drop 0 = dktX0_addReader_0 := by decide +kernel
theorem dX0_addReader_0 : decode cX0_addReader 0 = .ok (.aload_n 1, 1) := dk_43 (dk_at dksX0_addReader_0 0 rfl rfl)
theorem dX0_addReader_1 : decode cX0_addReader 1 = .ok (.iconst 0, 1) := dk_3 (dk_at dksX0_addReader_0 1 rfl rfl)
theorem dX0_addReader_2 : decode cX0_addReader 2 = .ok (.aload_n 0, 1) := dk_42 (dk_at dksX0_addReader_0 2 rfl rfl)
theorem dX0_addReader_3 : decode cX0_addReader 3 = .ok (.invokevirtual 55, 3) := dk_182 0 55 (dk_at dksX0_addReader_0 3 rfl rfl)
theorem dX0_addReader_6 : decode cX0_addReader 6 = .ok (.i2l, 1) := dk_133 (dk_at dksX0_addReader_0 6 rfl rfl)
theorem dX0_addReader_7 : decode cX0_addReader 7 = .ok (.lastore, 1) := dk_80 (dk_at dksX0_addReader_0 7 rfl rfl)
theorem dX0_addReader_8 : decode cX0_addReader 8 = .ok (.goto 9, 3) := dk_167 0 9 (dk_at dksX0_addReader_0 8 rfl rfl)
theorem dX0_addReader_11 : decode cX0_addReader 11 = .ok (.astore_n 2, 1) := dk_77 (dk_at dksX0_addReader_0 11 rfl rfl)
theorem dX0_addReader_12 : decode cX0_addReader 12 = .ok (.iconst 1, 1) := dk_4 (dk_at dksX0_addReader_0 12 rfl rfl)
theorem dX0_addReader_13 : decode cX0_addReader 13 = .ok (.ireturn, 1) := dk_172 (dk_at dksX0_addReader_0 13 rfl rfl)
theorem dX0_addReader_14 : decode cX0_addReader 14 = .ok (.astore_n 2, 1) := dk_77 (dk_at dksX0_addReader_0 14 rfl rfl)
theorem dX0_addReader_15 : decode cX0_addReader 15 = .ok (.iconst 2, 1) := dk_5 (dk_at dksX0_addReader_0 15 rfl rfl)
theorem dX0_addReader_16 : decode cX0_addReader 16 = .ok (.ireturn, 1) := dk_172 (dk_at dksX0_addReader_0 16 rfl rfl)
theorem dX0_addReader_17 : decode cX0_addReader 17 = .ok (.iconst 0, 1) := dk_3 (dk_at dksX0_addReader_0 17 rfl rfl)
theorem dX0_addReader_18 : decode cX0_addReader 18 = .ok (.ireturn, 1) := dk_172 (dk_at dksX0_addReader_0 18 rfl rfl)
abbrev cX0_addNote : ByteArray := method_16_code
def yX0_addNote : MethodName := ⟨RX0, "addNote", "(LNoteImporter;IIIII[J)I"⟩
def dkwX0_addNote_1 : List UInt8 := [58, 7, 5, 172, 58, 7, 6, 172, 3, 172]
abbrev dktX0_addNote_1 : List UInt8 := dkwX0_addNote_1 ++ []
def dkwX0_addNote_0 : List UInt8 := [25, 6, 3, 42, 27, 28, 29, 21, 4, 21, 5, 182, 0, 59, 133, 80, 167, 0, 15, 58, 7, 4, 172]
abbrev dktX0_addNote_0 : List UInt8 := dkwX0_addNote_0 ++ dktX0_addNote_1
theorem dksX0_addNote_0 : cX0_addNote.data.toList.drop 0 = dktX0_addNote_0 := by decide +kernel
theorem dksX0_addNote_1 : cX0_addNote.data.toList.drop 23 = dktX0_addNote_1 := dk_seg dksX0_addNote_0 23 rfl rfl
theorem dX0_addNote_0 : decode cX0_addNote 0 = .ok (.aload 6, 2) := dk_25 6 (dk_at dksX0_addNote_0 0 rfl rfl)
theorem dX0_addNote_2 : decode cX0_addNote 2 = .ok (.iconst 0, 1) := dk_3 (dk_at dksX0_addNote_0 2 rfl rfl)
theorem dX0_addNote_3 : decode cX0_addNote 3 = .ok (.aload_n 0, 1) := dk_42 (dk_at dksX0_addNote_0 3 rfl rfl)
theorem dX0_addNote_4 : decode cX0_addNote 4 = .ok (.iload_n 1, 1) := dk_27 (dk_at dksX0_addNote_0 4 rfl rfl)
theorem dX0_addNote_5 : decode cX0_addNote 5 = .ok (.iload_n 2, 1) := dk_28 (dk_at dksX0_addNote_0 5 rfl rfl)
theorem dX0_addNote_6 : decode cX0_addNote 6 = .ok (.iload_n 3, 1) := dk_29 (dk_at dksX0_addNote_0 6 rfl rfl)
theorem dX0_addNote_7 : decode cX0_addNote 7 = .ok (.iload 4, 2) := dk_21 4 (dk_at dksX0_addNote_0 7 rfl rfl)
theorem dX0_addNote_9 : decode cX0_addNote 9 = .ok (.iload 5, 2) := dk_21 5 (dk_at dksX0_addNote_0 9 rfl rfl)
theorem dX0_addNote_11 : decode cX0_addNote 11 = .ok (.invokevirtual 59, 3) := dk_182 0 59 (dk_at dksX0_addNote_0 11 rfl rfl)
theorem dX0_addNote_14 : decode cX0_addNote 14 = .ok (.i2l, 1) := dk_133 (dk_at dksX0_addNote_0 14 rfl rfl)
theorem dX0_addNote_15 : decode cX0_addNote 15 = .ok (.lastore, 1) := dk_80 (dk_at dksX0_addNote_0 15 rfl rfl)
theorem dX0_addNote_16 : decode cX0_addNote 16 = .ok (.goto 15, 3) := dk_167 0 15 (dk_at dksX0_addNote_0 16 rfl rfl)
theorem dX0_addNote_19 : decode cX0_addNote 19 = .ok (.astore 7, 2) := dk_58 7 (dk_at dksX0_addNote_0 19 rfl rfl)
theorem dX0_addNote_21 : decode cX0_addNote 21 = .ok (.iconst 1, 1) := dk_4 (dk_at dksX0_addNote_0 21 rfl rfl)
theorem dX0_addNote_22 : decode cX0_addNote 22 = .ok (.ireturn, 1) := dk_172 (dk_at dksX0_addNote_0 22 rfl rfl)
theorem dX0_addNote_23 : decode cX0_addNote 23 = .ok (.astore 7, 2) := dk_58 7 (dk_at dksX0_addNote_1 0 rfl rfl)
theorem dX0_addNote_25 : decode cX0_addNote 25 = .ok (.iconst 2, 1) := dk_5 (dk_at dksX0_addNote_1 2 rfl rfl)
theorem dX0_addNote_26 : decode cX0_addNote 26 = .ok (.ireturn, 1) := dk_172 (dk_at dksX0_addNote_1 3 rfl rfl)
theorem dX0_addNote_27 : decode cX0_addNote 27 = .ok (.astore 7, 2) := dk_58 7 (dk_at dksX0_addNote_1 4 rfl rfl)
theorem dX0_addNote_29 : decode cX0_addNote 29 = .ok (.iconst 3, 1) := dk_6 (dk_at dksX0_addNote_1 6 rfl rfl)
theorem dX0_addNote_30 : decode cX0_addNote 30 = .ok (.ireturn, 1) := dk_172 (dk_at dksX0_addNote_1 7 rfl rfl)
theorem dX0_addNote_31 : decode cX0_addNote 31 = .ok (.iconst 0, 1) := dk_3 (dk_at dksX0_addNote_1 8 rfl rfl)
theorem dX0_addNote_32 : decode cX0_addNote 32 = .ok (.ireturn, 1) := dk_172 (dk_at dksX0_addNote_1 9 rfl rfl)
abbrev cX0_note : ByteArray := method_17_code
def yX0_note : MethodName := ⟨RX0, "note", "(LNoteImporter;II[J)I"⟩
def dkwX0_note_0 : List UInt8 := [45, 3, 42, 27, 28, 182, 0, 63, 133, 80, 167, 0, 11, 58, 4, 4, 172, 58, 4, 5, 172, 3, 172]
abbrev dktX0_note_0 : List UInt8 := dkwX0_note_0 ++ []
theorem dksX0_note_0 : cX0_note.data.toList.drop 0 = dktX0_note_0 := by decide +kernel
theorem dX0_note_0 : decode cX0_note 0 = .ok (.aload_n 3, 1) := dk_45 (dk_at dksX0_note_0 0 rfl rfl)
theorem dX0_note_1 : decode cX0_note 1 = .ok (.iconst 0, 1) := dk_3 (dk_at dksX0_note_0 1 rfl rfl)
theorem dX0_note_2 : decode cX0_note 2 = .ok (.aload_n 0, 1) := dk_42 (dk_at dksX0_note_0 2 rfl rfl)
theorem dX0_note_3 : decode cX0_note 3 = .ok (.iload_n 1, 1) := dk_27 (dk_at dksX0_note_0 3 rfl rfl)
theorem dX0_note_4 : decode cX0_note 4 = .ok (.iload_n 2, 1) := dk_28 (dk_at dksX0_note_0 4 rfl rfl)
theorem dX0_note_5 : decode cX0_note 5 = .ok (.invokevirtual 63, 3) := dk_182 0 63 (dk_at dksX0_note_0 5 rfl rfl)
theorem dX0_note_8 : decode cX0_note 8 = .ok (.i2l, 1) := dk_133 (dk_at dksX0_note_0 8 rfl rfl)
theorem dX0_note_9 : decode cX0_note 9 = .ok (.lastore, 1) := dk_80 (dk_at dksX0_note_0 9 rfl rfl)
theorem dX0_note_10 : decode cX0_note 10 = .ok (.goto 11, 3) := dk_167 0 11 (dk_at dksX0_note_0 10 rfl rfl)
theorem dX0_note_13 : decode cX0_note 13 = .ok (.astore 4, 2) := dk_58 4 (dk_at dksX0_note_0 13 rfl rfl)
theorem dX0_note_15 : decode cX0_note 15 = .ok (.iconst 1, 1) := dk_4 (dk_at dksX0_note_0 15 rfl rfl)
theorem dX0_note_16 : decode cX0_note 16 = .ok (.ireturn, 1) := dk_172 (dk_at dksX0_note_0 16 rfl rfl)
theorem dX0_note_17 : decode cX0_note 17 = .ok (.astore 4, 2) := dk_58 4 (dk_at dksX0_note_0 17 rfl rfl)
theorem dX0_note_19 : decode cX0_note 19 = .ok (.iconst 2, 1) := dk_5 (dk_at dksX0_note_0 19 rfl rfl)
theorem dX0_note_20 : decode cX0_note 20 = .ok (.ireturn, 1) := dk_172 (dk_at dksX0_note_0 20 rfl rfl)
theorem dX0_note_21 : decode cX0_note 21 = .ok (.iconst 0, 1) := dk_3 (dk_at dksX0_note_0 21 rfl rfl)
theorem dX0_note_22 : decode cX0_note 22 = .ok (.ireturn, 1) := dk_172 (dk_at dksX0_note_0 22 rfl rfl)
abbrev cX0_removeNote : ByteArray := method_18_code
def yX0_removeNote : MethodName := ⟨RX0, "removeNote", "(LNoteImporter;[J)I"⟩
def dkwX0_removeNote_0 : List UInt8 := [43, 3, 42, 182, 0, 66, 133, 80, 167, 0, 6, 77, 4, 172, 3, 172]
abbrev dktX0_removeNote_0 : List UInt8 := dkwX0_removeNote_0 ++ []
theorem dksX0_removeNote_0 : cX0_removeNote.data.toList.drop 0 = dktX0_removeNote_0 := by decide +kernel
theorem dX0_removeNote_0 : decode cX0_removeNote 0 = .ok (.aload_n 1, 1) := dk_43 (dk_at dksX0_removeNote_0 0 rfl rfl)
theorem dX0_removeNote_1 : decode cX0_removeNote 1 = .ok (.iconst 0, 1) := dk_3 (dk_at dksX0_removeNote_0 1 rfl rfl)
theorem dX0_removeNote_2 : decode cX0_removeNote 2 = .ok (.aload_n 0, 1) := dk_42 (dk_at dksX0_removeNote_0 2 rfl rfl)
theorem dX0_removeNote_3 : decode cX0_removeNote 3 = .ok (.invokevirtual 66, 3) := dk_182 0 66 (dk_at dksX0_removeNote_0 3 rfl rfl)
theorem dX0_removeNote_6 : decode cX0_removeNote 6 = .ok (.i2l, 1) := dk_133 (dk_at dksX0_removeNote_0 6 rfl rfl)
theorem dX0_removeNote_7 : decode cX0_removeNote 7 = .ok (.lastore, 1) := dk_80 (dk_at dksX0_removeNote_0 7 rfl rfl)
theorem dX0_removeNote_8 : decode cX0_removeNote 8 = .ok (.goto 6, 3) := dk_167 0 6 (dk_at dksX0_removeNote_0 8 rfl rfl)
theorem dX0_removeNote_11 : decode cX0_removeNote 11 = .ok (.astore_n 2, 1) := dk_77 (dk_at dksX0_removeNote_0 11 rfl rfl)
theorem dX0_removeNote_12 : decode cX0_removeNote 12 = .ok (.iconst 1, 1) := dk_4 (dk_at dksX0_removeNote_0 12 rfl rfl)
theorem dX0_removeNote_13 : decode cX0_removeNote 13 = .ok (.ireturn, 1) := dk_172 (dk_at dksX0_removeNote_0 13 rfl rfl)
theorem dX0_removeNote_14 : decode cX0_removeNote 14 = .ok (.iconst 0, 1) := dk_3 (dk_at dksX0_removeNote_0 14 rfl rfl)
theorem dX0_removeNote_15 : decode cX0_removeNote 15 = .ok (.ireturn, 1) := dk_172 (dk_at dksX0_removeNote_0 15 rfl rfl)
abbrev cX0_partner : ByteArray := method_19_code
def yX0_partner : MethodName := ⟨RX0, "partner", "(LNoteImporter;II[J)I"⟩
def dkwX0_partner_0 : List UInt8 := [45, 3, 42, 27, 28, 182, 0, 69, 133, 80, 167, 0, 7, 58, 4, 4, 172, 3, 172]
abbrev dktX0_partner_0 : List UInt8 := dkwX0_partner_0 ++ []
theorem dksX0_partner_0 : cX0_partner.data.toList.drop 0 = dktX0_partner_0 := by decide +kernel
theorem dX0_partner_0 : decode cX0_partner 0 = .ok (.aload_n 3, 1) := dk_45 (dk_at dksX0_partner_0 0 rfl rfl)
theorem dX0_partner_1 : decode cX0_partner 1 = .ok (.iconst 0, 1) := dk_3 (dk_at dksX0_partner_0 1 rfl rfl)
theorem dX0_partner_2 : decode cX0_partner 2 = .ok (.aload_n 0, 1) := dk_42 (dk_at dksX0_partner_0 2 rfl rfl)
theorem dX0_partner_3 : decode cX0_partner 3 = .ok (.iload_n 1, 1) := dk_27 (dk_at dksX0_partner_0 3 rfl rfl)
theorem dX0_partner_4 : decode cX0_partner 4 = .ok (.iload_n 2, 1) := dk_28 (dk_at dksX0_partner_0 4 rfl rfl)
theorem dX0_partner_5 : decode cX0_partner 5 = .ok (.invokevirtual 69, 3) := dk_182 0 69 (dk_at dksX0_partner_0 5 rfl rfl)
theorem dX0_partner_8 : decode cX0_partner 8 = .ok (.i2l, 1) := dk_133 (dk_at dksX0_partner_0 8 rfl rfl)
theorem dX0_partner_9 : decode cX0_partner 9 = .ok (.lastore, 1) := dk_80 (dk_at dksX0_partner_0 9 rfl rfl)
theorem dX0_partner_10 : decode cX0_partner 10 = .ok (.goto 7, 3) := dk_167 0 7 (dk_at dksX0_partner_0 10 rfl rfl)
theorem dX0_partner_13 : decode cX0_partner 13 = .ok (.astore 4, 2) := dk_58 4 (dk_at dksX0_partner_0 13 rfl rfl)
theorem dX0_partner_15 : decode cX0_partner 15 = .ok (.iconst 1, 1) := dk_4 (dk_at dksX0_partner_0 15 rfl rfl)
theorem dX0_partner_16 : decode cX0_partner 16 = .ok (.ireturn, 1) := dk_172 (dk_at dksX0_partner_0 16 rfl rfl)
theorem dX0_partner_17 : decode cX0_partner 17 = .ok (.iconst 0, 1) := dk_3 (dk_at dksX0_partner_0 17 rfl rfl)
theorem dX0_partner_18 : decode cX0_partner 18 = .ok (.ireturn, 1) := dk_172 (dk_at dksX0_partner_0 18 rfl rfl)
abbrev cX0_partners : ByteArray := method_20_code
def yX0_partners : MethodName := ⟨RX0, "partners", "(LNoteImporter;I[J)I"⟩
def dkwX0_partners_0 : List UInt8 := [44, 3, 42, 27, 182, 0, 72, 133, 80, 167, 0, 6, 78, 4, 172, 3, 172]
abbrev dktX0_partners_0 : List UInt8 := dkwX0_partners_0 ++ []
theorem dksX0_partners_0 : cX0_partners.data.toList.drop 0 = dktX0_partners_0 := by decide +kernel
theorem dX0_partners_0 : decode cX0_partners 0 = .ok (.aload_n 2, 1) := dk_44 (dk_at dksX0_partners_0 0 rfl rfl)
theorem dX0_partners_1 : decode cX0_partners 1 = .ok (.iconst 0, 1) := dk_3 (dk_at dksX0_partners_0 1 rfl rfl)
theorem dX0_partners_2 : decode cX0_partners 2 = .ok (.aload_n 0, 1) := dk_42 (dk_at dksX0_partners_0 2 rfl rfl)
theorem dX0_partners_3 : decode cX0_partners 3 = .ok (.iload_n 1, 1) := dk_27 (dk_at dksX0_partners_0 3 rfl rfl)
theorem dX0_partners_4 : decode cX0_partners 4 = .ok (.invokevirtual 72, 3) := dk_182 0 72 (dk_at dksX0_partners_0 4 rfl rfl)
theorem dX0_partners_7 : decode cX0_partners 7 = .ok (.i2l, 1) := dk_133 (dk_at dksX0_partners_0 7 rfl rfl)
theorem dX0_partners_8 : decode cX0_partners 8 = .ok (.lastore, 1) := dk_80 (dk_at dksX0_partners_0 8 rfl rfl)
theorem dX0_partners_9 : decode cX0_partners 9 = .ok (.goto 6, 3) := dk_167 0 6 (dk_at dksX0_partners_0 9 rfl rfl)
theorem dX0_partners_12 : decode cX0_partners 12 = .ok (.astore_n 3, 1) := dk_78 (dk_at dksX0_partners_0 12 rfl rfl)
theorem dX0_partners_13 : decode cX0_partners 13 = .ok (.iconst 1, 1) := dk_4 (dk_at dksX0_partners_0 13 rfl rfl)
theorem dX0_partners_14 : decode cX0_partners 14 = .ok (.ireturn, 1) := dk_172 (dk_at dksX0_partners_0 14 rfl rfl)
theorem dX0_partners_15 : decode cX0_partners 15 = .ok (.iconst 0, 1) := dk_3 (dk_at dksX0_partners_0 15 rfl rfl)
theorem dX0_partners_16 : decode cX0_partners 16 = .ok (.ireturn, 1) := dk_172 (dk_at dksX0_partners_0 16 rfl rfl)
abbrev cX0_anchor : ByteArray := method_21_code
def yX0_anchor : MethodName := ⟨RX0, "anchor", "(LNoteImporter;II[J)I"⟩
def dkwX0_anchor_0 : List UInt8 := [45, 3, 42, 27, 28, 182, 0, 75, 133, 80, 167, 0, 11, 58, 4, 4, 172, 58, 4, 5, 172, 3, 172]
abbrev dktX0_anchor_0 : List UInt8 := dkwX0_anchor_0 ++ []
theorem dksX0_anchor_0 : cX0_anchor.data.toList.drop 0 = dktX0_anchor_0 := by decide +kernel
theorem dX0_anchor_0 : decode cX0_anchor 0 = .ok (.aload_n 3, 1) := dk_45 (dk_at dksX0_anchor_0 0 rfl rfl)
theorem dX0_anchor_1 : decode cX0_anchor 1 = .ok (.iconst 0, 1) := dk_3 (dk_at dksX0_anchor_0 1 rfl rfl)
theorem dX0_anchor_2 : decode cX0_anchor 2 = .ok (.aload_n 0, 1) := dk_42 (dk_at dksX0_anchor_0 2 rfl rfl)
theorem dX0_anchor_3 : decode cX0_anchor 3 = .ok (.iload_n 1, 1) := dk_27 (dk_at dksX0_anchor_0 3 rfl rfl)
theorem dX0_anchor_4 : decode cX0_anchor 4 = .ok (.iload_n 2, 1) := dk_28 (dk_at dksX0_anchor_0 4 rfl rfl)
theorem dX0_anchor_5 : decode cX0_anchor 5 = .ok (.invokevirtual 75, 3) := dk_182 0 75 (dk_at dksX0_anchor_0 5 rfl rfl)
theorem dX0_anchor_8 : decode cX0_anchor 8 = .ok (.i2l, 1) := dk_133 (dk_at dksX0_anchor_0 8 rfl rfl)
theorem dX0_anchor_9 : decode cX0_anchor 9 = .ok (.lastore, 1) := dk_80 (dk_at dksX0_anchor_0 9 rfl rfl)
theorem dX0_anchor_10 : decode cX0_anchor 10 = .ok (.goto 11, 3) := dk_167 0 11 (dk_at dksX0_anchor_0 10 rfl rfl)
theorem dX0_anchor_13 : decode cX0_anchor 13 = .ok (.astore 4, 2) := dk_58 4 (dk_at dksX0_anchor_0 13 rfl rfl)
theorem dX0_anchor_15 : decode cX0_anchor 15 = .ok (.iconst 1, 1) := dk_4 (dk_at dksX0_anchor_0 15 rfl rfl)
theorem dX0_anchor_16 : decode cX0_anchor 16 = .ok (.ireturn, 1) := dk_172 (dk_at dksX0_anchor_0 16 rfl rfl)
theorem dX0_anchor_17 : decode cX0_anchor 17 = .ok (.astore 4, 2) := dk_58 4 (dk_at dksX0_anchor_0 17 rfl rfl)
theorem dX0_anchor_19 : decode cX0_anchor 19 = .ok (.iconst 2, 1) := dk_5 (dk_at dksX0_anchor_0 19 rfl rfl)
theorem dX0_anchor_20 : decode cX0_anchor 20 = .ok (.ireturn, 1) := dk_172 (dk_at dksX0_anchor_0 20 rfl rfl)
theorem dX0_anchor_21 : decode cX0_anchor 21 = .ok (.iconst 0, 1) := dk_3 (dk_at dksX0_anchor_0 21 rfl rfl)
theorem dX0_anchor_22 : decode cX0_anchor 22 = .ok (.ireturn, 1) := dk_172 (dk_at dksX0_anchor_0 22 rfl rfl)
abbrev cX0_anchors : ByteArray := method_22_code
def yX0_anchors : MethodName := ⟨RX0, "anchors", "(LNoteImporter;I[J)I"⟩
def dkwX0_anchors_0 : List UInt8 := [44, 3, 42, 27, 182, 0, 78, 133, 80, 167, 0, 6, 78, 4, 172, 3, 172]
abbrev dktX0_anchors_0 : List UInt8 := dkwX0_anchors_0 ++ []
theorem dksX0_anchors_0 : cX0_anchors.data.toList.drop 0 = dktX0_anchors_0 := by decide +kernel
theorem dX0_anchors_0 : decode cX0_anchors 0 = .ok (.aload_n 2, 1) := dk_44 (dk_at dksX0_anchors_0 0 rfl rfl)
theorem dX0_anchors_1 : decode cX0_anchors 1 = .ok (.iconst 0, 1) := dk_3 (dk_at dksX0_anchors_0 1 rfl rfl)
theorem dX0_anchors_2 : decode cX0_anchors 2 = .ok (.aload_n 0, 1) := dk_42 (dk_at dksX0_anchors_0 2 rfl rfl)
theorem dX0_anchors_3 : decode cX0_anchors 3 = .ok (.iload_n 1, 1) := dk_27 (dk_at dksX0_anchors_0 3 rfl rfl)
theorem dX0_anchors_4 : decode cX0_anchors 4 = .ok (.invokevirtual 78, 3) := dk_182 0 78 (dk_at dksX0_anchors_0 4 rfl rfl)
theorem dX0_anchors_7 : decode cX0_anchors 7 = .ok (.i2l, 1) := dk_133 (dk_at dksX0_anchors_0 7 rfl rfl)
theorem dX0_anchors_8 : decode cX0_anchors 8 = .ok (.lastore, 1) := dk_80 (dk_at dksX0_anchors_0 8 rfl rfl)
theorem dX0_anchors_9 : decode cX0_anchors 9 = .ok (.goto 6, 3) := dk_167 0 6 (dk_at dksX0_anchors_0 9 rfl rfl)
theorem dX0_anchors_12 : decode cX0_anchors 12 = .ok (.astore_n 3, 1) := dk_78 (dk_at dksX0_anchors_0 12 rfl rfl)
theorem dX0_anchors_13 : decode cX0_anchors 13 = .ok (.iconst 1, 1) := dk_4 (dk_at dksX0_anchors_0 13 rfl rfl)
theorem dX0_anchors_14 : decode cX0_anchors 14 = .ok (.ireturn, 1) := dk_172 (dk_at dksX0_anchors_0 14 rfl rfl)
theorem dX0_anchors_15 : decode cX0_anchors 15 = .ok (.iconst 0, 1) := dk_3 (dk_at dksX0_anchors_0 15 rfl rfl)
theorem dX0_anchors_16 : decode cX0_anchors 16 = .ok (.ireturn, 1) := dk_172 (dk_at dksX0_anchors_0 16 rfl rfl)
abbrev cX0_setThreshold : ByteArray := method_23_code
def yX0_setThreshold : MethodName := ⟨RX0, "setThreshold", "(LNoteImporter;I[J)I"⟩
def dkwX0_setThreshold_0 : List UInt8 := [44, 3, 42, 27, 182, 0, 81, 133, 80, 167, 0, 6, 78, 4, 172, 3, 172]
abbrev dktX0_setThreshold_0 : List UInt8 := dkwX0_setThreshold_0 ++ []
theorem dksX0_setThreshold_0 : cX0_setThreshold.data.toList.drop 0 = dktX0_setThreshold_0 := by decide +kernel
theorem dX0_setThreshold_0 : decode cX0_setThreshold 0 = .ok (.aload_n 2, 1) := dk_44 (dk_at dksX0_setThreshold_0 0 rfl rfl)
theorem dX0_setThreshold_1 : decode cX0_setThreshold 1 = .ok (.iconst 0, 1) := dk_3 (dk_at dksX0_setThreshold_0 1 rfl rfl)
theorem dX0_setThreshold_2 : decode cX0_setThreshold 2 = .ok (.aload_n 0, 1) := dk_42 (dk_at dksX0_setThreshold_0 2 rfl rfl)
theorem dX0_setThreshold_3 : decode cX0_setThreshold 3 = .ok (.iload_n 1, 1) := dk_27 (dk_at dksX0_setThreshold_0 3 rfl rfl)
theorem dX0_setThreshold_4 : decode cX0_setThreshold 4 = .ok (.invokevirtual 81, 3) := dk_182 0 81 (dk_at dksX0_setThreshold_0 4 rfl rfl)
theorem dX0_setThreshold_7 : decode cX0_setThreshold 7 = .ok (.i2l, 1) := dk_133 (dk_at dksX0_setThreshold_0 7 rfl rfl)
theorem dX0_setThreshold_8 : decode cX0_setThreshold 8 = .ok (.lastore, 1) := dk_80 (dk_at dksX0_setThreshold_0 8 rfl rfl)
theorem dX0_setThreshold_9 : decode cX0_setThreshold 9 = .ok (.goto 6, 3) := dk_167 0 6 (dk_at dksX0_setThreshold_0 9 rfl rfl)
theorem dX0_setThreshold_12 : decode cX0_setThreshold 12 = .ok (.astore_n 3, 1) := dk_78 (dk_at dksX0_setThreshold_0 12 rfl rfl)
theorem dX0_setThreshold_13 : decode cX0_setThreshold 13 = .ok (.iconst 1, 1) := dk_4 (dk_at dksX0_setThreshold_0 13 rfl rfl)
theorem dX0_setThreshold_14 : decode cX0_setThreshold 14 = .ok (.ireturn, 1) := dk_172 (dk_at dksX0_setThreshold_0 14 rfl rfl)
theorem dX0_setThreshold_15 : decode cX0_setThreshold 15 = .ok (.iconst 0, 1) := dk_3 (dk_at dksX0_setThreshold_0 15 rfl rfl)
theorem dX0_setThreshold_16 : decode cX0_setThreshold 16 = .ok (.ireturn, 1) := dk_172 (dk_at dksX0_setThreshold_0 16 rfl rfl)
abbrev cX0_areAlike : ByteArray := method_24_code
def yX0_areAlike : MethodName := ⟨RX0, "areAlike", "(LNoteImporter;II[J)I"⟩
def dkwX0_areAlike_1 : List UInt8 := [3, 172]
abbrev dktX0_areAlike_1 : List UInt8 := dkwX0_areAlike_1 ++ []
def dkwX0_areAlike_0 : List UInt8 := [45, 3, 42, 27, 28, 182, 0, 84, 153, 0, 7, 10, 167, 0, 4, 9, 80, 167, 0, 7, 58, 4, 4, 172]
abbrev dktX0_areAlike_0 : List UInt8 := dkwX0_areAlike_0 ++ dktX0_areAlike_1
theorem dksX0_areAlike_0 : cX0_areAlike.data.toList.drop 0 = dktX0_areAlike_0 := by decide +kernel
theorem dksX0_areAlike_1 : cX0_areAlike.data.toList.drop 24 = dktX0_areAlike_1 := dk_seg dksX0_areAlike_0 24 rfl rfl
theorem dX0_areAlike_0 : decode cX0_areAlike 0 = .ok (.aload_n 3, 1) := dk_45 (dk_at dksX0_areAlike_0 0 rfl rfl)
theorem dX0_areAlike_1 : decode cX0_areAlike 1 = .ok (.iconst 0, 1) := dk_3 (dk_at dksX0_areAlike_0 1 rfl rfl)
theorem dX0_areAlike_2 : decode cX0_areAlike 2 = .ok (.aload_n 0, 1) := dk_42 (dk_at dksX0_areAlike_0 2 rfl rfl)
theorem dX0_areAlike_3 : decode cX0_areAlike 3 = .ok (.iload_n 1, 1) := dk_27 (dk_at dksX0_areAlike_0 3 rfl rfl)
theorem dX0_areAlike_4 : decode cX0_areAlike 4 = .ok (.iload_n 2, 1) := dk_28 (dk_at dksX0_areAlike_0 4 rfl rfl)
theorem dX0_areAlike_5 : decode cX0_areAlike 5 = .ok (.invokevirtual 84, 3) := dk_182 0 84 (dk_at dksX0_areAlike_0 5 rfl rfl)
theorem dX0_areAlike_8 : decode cX0_areAlike 8 = .ok (.ifCond .eq 7, 3) := dk_153 0 7 (dk_at dksX0_areAlike_0 8 rfl rfl)
theorem dX0_areAlike_11 : decode cX0_areAlike 11 = .ok (.lconst 1, 1) := dk_10 (dk_at dksX0_areAlike_0 11 rfl rfl)
theorem dX0_areAlike_12 : decode cX0_areAlike 12 = .ok (.goto 4, 3) := dk_167 0 4 (dk_at dksX0_areAlike_0 12 rfl rfl)
theorem dX0_areAlike_15 : decode cX0_areAlike 15 = .ok (.lconst 0, 1) := dk_9 (dk_at dksX0_areAlike_0 15 rfl rfl)
theorem dX0_areAlike_16 : decode cX0_areAlike 16 = .ok (.lastore, 1) := dk_80 (dk_at dksX0_areAlike_0 16 rfl rfl)
theorem dX0_areAlike_17 : decode cX0_areAlike 17 = .ok (.goto 7, 3) := dk_167 0 7 (dk_at dksX0_areAlike_0 17 rfl rfl)
theorem dX0_areAlike_20 : decode cX0_areAlike 20 = .ok (.astore 4, 2) := dk_58 4 (dk_at dksX0_areAlike_0 20 rfl rfl)
theorem dX0_areAlike_22 : decode cX0_areAlike 22 = .ok (.iconst 1, 1) := dk_4 (dk_at dksX0_areAlike_0 22 rfl rfl)
theorem dX0_areAlike_23 : decode cX0_areAlike 23 = .ok (.ireturn, 1) := dk_172 (dk_at dksX0_areAlike_0 23 rfl rfl)
theorem dX0_areAlike_24 : decode cX0_areAlike 24 = .ok (.iconst 0, 1) := dk_3 (dk_at dksX0_areAlike_1 0 rfl rfl)
theorem dX0_areAlike_25 : decode cX0_areAlike 25 = .ok (.ireturn, 1) := dk_172 (dk_at dksX0_areAlike_1 1 rfl rfl)
abbrev cX0_groupOf : ByteArray := method_25_code
def yX0_groupOf : MethodName := ⟨RX0, "groupOf", "(LNoteImporter;I[J)I"⟩
def dkwX0_groupOf_0 : List UInt8 := [44, 3, 42, 27, 182, 0, 88, 133, 80, 167, 0, 6, 78, 4, 172, 3, 172]
abbrev dktX0_groupOf_0 : List UInt8 := dkwX0_groupOf_0 ++ []
theorem dksX0_groupOf_0 : cX0_groupOf.data.toList.drop 0 = dktX0_groupOf_0 := by decide +kernel
theorem dX0_groupOf_0 : decode cX0_groupOf 0 = .ok (.aload_n 2, 1) := dk_44 (dk_at dksX0_groupOf_0 0 rfl rfl)
theorem dX0_groupOf_1 : decode cX0_groupOf 1 = .ok (.iconst 0, 1) := dk_3 (dk_at dksX0_groupOf_0 1 rfl rfl)
theorem dX0_groupOf_2 : decode cX0_groupOf 2 = .ok (.aload_n 0, 1) := dk_42 (dk_at dksX0_groupOf_0 2 rfl rfl)
theorem dX0_groupOf_3 : decode cX0_groupOf 3 = .ok (.iload_n 1, 1) := dk_27 (dk_at dksX0_groupOf_0 3 rfl rfl)
theorem dX0_groupOf_4 : decode cX0_groupOf 4 = .ok (.invokevirtual 88, 3) := dk_182 0 88 (dk_at dksX0_groupOf_0 4 rfl rfl)
theorem dX0_groupOf_7 : decode cX0_groupOf 7 = .ok (.i2l, 1) := dk_133 (dk_at dksX0_groupOf_0 7 rfl rfl)
theorem dX0_groupOf_8 : decode cX0_groupOf 8 = .ok (.lastore, 1) := dk_80 (dk_at dksX0_groupOf_0 8 rfl rfl)
theorem dX0_groupOf_9 : decode cX0_groupOf 9 = .ok (.goto 6, 3) := dk_167 0 6 (dk_at dksX0_groupOf_0 9 rfl rfl)
theorem dX0_groupOf_12 : decode cX0_groupOf 12 = .ok (.astore_n 3, 1) := dk_78 (dk_at dksX0_groupOf_0 12 rfl rfl)
theorem dX0_groupOf_13 : decode cX0_groupOf 13 = .ok (.iconst 1, 1) := dk_4 (dk_at dksX0_groupOf_0 13 rfl rfl)
theorem dX0_groupOf_14 : decode cX0_groupOf 14 = .ok (.ireturn, 1) := dk_172 (dk_at dksX0_groupOf_0 14 rfl rfl)
theorem dX0_groupOf_15 : decode cX0_groupOf 15 = .ok (.iconst 0, 1) := dk_3 (dk_at dksX0_groupOf_0 15 rfl rfl)
theorem dX0_groupOf_16 : decode cX0_groupOf 16 = .ok (.ireturn, 1) := dk_172 (dk_at dksX0_groupOf_0 16 rfl rfl)
abbrev cX0_group : ByteArray := method_26_code
def yX0_group : MethodName := ⟨RX0, "group", "(LNoteImporter;II[J)I"⟩
def dkwX0_group_0 : List UInt8 := [45, 3, 42, 27, 28, 182, 0, 91, 133, 80, 167, 0, 11, 58, 4, 4, 172, 58, 4, 5, 172, 3, 172]
abbrev dktX0_group_0 : List UInt8 := dkwX0_group_0 ++ []
theorem dksX0_group_0 : cX0_group.data.toList.drop 0 = dktX0_group_0 := by decide +kernel
theorem dX0_group_0 : decode cX0_group 0 = .ok (.aload_n 3, 1) := dk_45 (dk_at dksX0_group_0 0 rfl rfl)
theorem dX0_group_1 : decode cX0_group 1 = .ok (.iconst 0, 1) := dk_3 (dk_at dksX0_group_0 1 rfl rfl)
theorem dX0_group_2 : decode cX0_group 2 = .ok (.aload_n 0, 1) := dk_42 (dk_at dksX0_group_0 2 rfl rfl)
theorem dX0_group_3 : decode cX0_group 3 = .ok (.iload_n 1, 1) := dk_27 (dk_at dksX0_group_0 3 rfl rfl)
theorem dX0_group_4 : decode cX0_group 4 = .ok (.iload_n 2, 1) := dk_28 (dk_at dksX0_group_0 4 rfl rfl)
theorem dX0_group_5 : decode cX0_group 5 = .ok (.invokevirtual 91, 3) := dk_182 0 91 (dk_at dksX0_group_0 5 rfl rfl)
theorem dX0_group_8 : decode cX0_group 8 = .ok (.i2l, 1) := dk_133 (dk_at dksX0_group_0 8 rfl rfl)
theorem dX0_group_9 : decode cX0_group 9 = .ok (.lastore, 1) := dk_80 (dk_at dksX0_group_0 9 rfl rfl)
theorem dX0_group_10 : decode cX0_group 10 = .ok (.goto 11, 3) := dk_167 0 11 (dk_at dksX0_group_0 10 rfl rfl)
theorem dX0_group_13 : decode cX0_group 13 = .ok (.astore 4, 2) := dk_58 4 (dk_at dksX0_group_0 13 rfl rfl)
theorem dX0_group_15 : decode cX0_group 15 = .ok (.iconst 1, 1) := dk_4 (dk_at dksX0_group_0 15 rfl rfl)
theorem dX0_group_16 : decode cX0_group 16 = .ok (.ireturn, 1) := dk_172 (dk_at dksX0_group_0 16 rfl rfl)
theorem dX0_group_17 : decode cX0_group 17 = .ok (.astore 4, 2) := dk_58 4 (dk_at dksX0_group_0 17 rfl rfl)
theorem dX0_group_19 : decode cX0_group 19 = .ok (.iconst 2, 1) := dk_5 (dk_at dksX0_group_0 19 rfl rfl)
theorem dX0_group_20 : decode cX0_group 20 = .ok (.ireturn, 1) := dk_172 (dk_at dksX0_group_0 20 rfl rfl)
theorem dX0_group_21 : decode cX0_group 21 = .ok (.iconst 0, 1) := dk_3 (dk_at dksX0_group_0 21 rfl rfl)
theorem dX0_group_22 : decode cX0_group 22 = .ok (.ireturn, 1) := dk_172 (dk_at dksX0_group_0 22 rfl rfl)
abbrev cX0_heat : ByteArray := method_27_code
def yX0_heat : MethodName := ⟨RX0, "heat", "(LNoteImporter;I[J)I"⟩
def dkwX0_heat_0 : List UInt8 := [44, 3, 42, 27, 182, 0, 94, 133, 80, 167, 0, 6, 78, 4, 172, 3, 172]
abbrev dktX0_heat_0 : List UInt8 := dkwX0_heat_0 ++ []
theorem dksX0_heat_0 : cX0_heat.data.toList.drop 0 = dktX0_heat_0 := by decide +kernel
theorem dX0_heat_0 : decode cX0_heat 0 = .ok (.aload_n 2, 1) := dk_44 (dk_at dksX0_heat_0 0 rfl rfl)
theorem dX0_heat_1 : decode cX0_heat 1 = .ok (.iconst 0, 1) := dk_3 (dk_at dksX0_heat_0 1 rfl rfl)
theorem dX0_heat_2 : decode cX0_heat 2 = .ok (.aload_n 0, 1) := dk_42 (dk_at dksX0_heat_0 2 rfl rfl)
theorem dX0_heat_3 : decode cX0_heat 3 = .ok (.iload_n 1, 1) := dk_27 (dk_at dksX0_heat_0 3 rfl rfl)
theorem dX0_heat_4 : decode cX0_heat 4 = .ok (.invokevirtual 94, 3) := dk_182 0 94 (dk_at dksX0_heat_0 4 rfl rfl)
theorem dX0_heat_7 : decode cX0_heat 7 = .ok (.i2l, 1) := dk_133 (dk_at dksX0_heat_0 7 rfl rfl)
theorem dX0_heat_8 : decode cX0_heat 8 = .ok (.lastore, 1) := dk_80 (dk_at dksX0_heat_0 8 rfl rfl)
theorem dX0_heat_9 : decode cX0_heat 9 = .ok (.goto 6, 3) := dk_167 0 6 (dk_at dksX0_heat_0 9 rfl rfl)
theorem dX0_heat_12 : decode cX0_heat 12 = .ok (.astore_n 3, 1) := dk_78 (dk_at dksX0_heat_0 12 rfl rfl)
theorem dX0_heat_13 : decode cX0_heat 13 = .ok (.iconst 1, 1) := dk_4 (dk_at dksX0_heat_0 13 rfl rfl)
theorem dX0_heat_14 : decode cX0_heat 14 = .ok (.ireturn, 1) := dk_172 (dk_at dksX0_heat_0 14 rfl rfl)
theorem dX0_heat_15 : decode cX0_heat 15 = .ok (.iconst 0, 1) := dk_3 (dk_at dksX0_heat_0 15 rfl rfl)
theorem dX0_heat_16 : decode cX0_heat 16 = .ok (.ireturn, 1) := dk_172 (dk_at dksX0_heat_0 16 rfl rfl)
abbrev cX0_marginGroups : ByteArray := method_28_code
def yX0_marginGroups : MethodName := ⟨RX0, "marginGroups", "(LNoteImporter;I[J)I"⟩
def dkwX0_marginGroups_0 : List UInt8 := [44, 3, 42, 27, 182, 0, 97, 133, 80, 167, 0, 6, 78, 4, 172, 3, 172]
abbrev dktX0_marginGroups_0 : List UInt8 := dkwX0_marginGroups_0 ++ []
theorem dksX0_marginGroups_0 : cX0_marginGroups.data.toList.drop 0 = dktX0_marginGroups_0 := by decide +kernel
theorem dX0_marginGroups_0 : decode cX0_marginGroups 0 = .ok (.aload_n 2, 1) := dk_44 (dk_at dksX0_marginGroups_0 0 rfl rfl)
theorem dX0_marginGroups_1 : decode cX0_marginGroups 1 = .ok (.iconst 0, 1) := dk_3 (dk_at dksX0_marginGroups_0 1 rfl rfl)
theorem dX0_marginGroups_2 : decode cX0_marginGroups 2 = .ok (.aload_n 0, 1) := dk_42 (dk_at dksX0_marginGroups_0 2 rfl rfl)
theorem dX0_marginGroups_3 : decode cX0_marginGroups 3 = .ok (.iload_n 1, 1) := dk_27 (dk_at dksX0_marginGroups_0 3 rfl rfl)
theorem dX0_marginGroups_4 : decode cX0_marginGroups 4 = .ok (.invokevirtual 97, 3) := dk_182 0 97 (dk_at dksX0_marginGroups_0 4 rfl rfl)
theorem dX0_marginGroups_7 : decode cX0_marginGroups 7 = .ok (.i2l, 1) := dk_133 (dk_at dksX0_marginGroups_0 7 rfl rfl)
theorem dX0_marginGroups_8 : decode cX0_marginGroups 8 = .ok (.lastore, 1) := dk_80 (dk_at dksX0_marginGroups_0 8 rfl rfl)
theorem dX0_marginGroups_9 : decode cX0_marginGroups 9 = .ok (.goto 6, 3) := dk_167 0 6 (dk_at dksX0_marginGroups_0 9 rfl rfl)
theorem dX0_marginGroups_12 : decode cX0_marginGroups 12 = .ok (.astore_n 3, 1) := dk_78 (dk_at dksX0_marginGroups_0 12 rfl rfl)
theorem dX0_marginGroups_13 : decode cX0_marginGroups 13 = .ok (.iconst 1, 1) := dk_4 (dk_at dksX0_marginGroups_0 13 rfl rfl)
theorem dX0_marginGroups_14 : decode cX0_marginGroups 14 = .ok (.ireturn, 1) := dk_172 (dk_at dksX0_marginGroups_0 14 rfl rfl)
theorem dX0_marginGroups_15 : decode cX0_marginGroups 15 = .ok (.iconst 0, 1) := dk_3 (dk_at dksX0_marginGroups_0 15 rfl rfl)
theorem dX0_marginGroups_16 : decode cX0_marginGroups 16 = .ok (.ireturn, 1) := dk_172 (dk_at dksX0_marginGroups_0 16 rfl rfl)
abbrev cX0_marginRow : ByteArray := method_29_code
def yX0_marginRow : MethodName := ⟨RX0, "marginRow", "(LNoteImporter;II[J)I"⟩
def dkwX0_marginRow_0 : List UInt8 := [45, 3, 42, 27, 28, 182, 0, 100, 133, 80, 167, 0, 7, 58, 4, 4, 172, 3, 172]
abbrev dktX0_marginRow_0 : List UInt8 := dkwX0_marginRow_0 ++ []
theorem dksX0_marginRow_0 : cX0_marginRow.data.toList.drop 0 = dktX0_marginRow_0 := by decide +kernel
theorem dX0_marginRow_0 : decode cX0_marginRow 0 = .ok (.aload_n 3, 1) := dk_45 (dk_at dksX0_marginRow_0 0 rfl rfl)
theorem dX0_marginRow_1 : decode cX0_marginRow 1 = .ok (.iconst 0, 1) := dk_3 (dk_at dksX0_marginRow_0 1 rfl rfl)
theorem dX0_marginRow_2 : decode cX0_marginRow 2 = .ok (.aload_n 0, 1) := dk_42 (dk_at dksX0_marginRow_0 2 rfl rfl)
theorem dX0_marginRow_3 : decode cX0_marginRow 3 = .ok (.iload_n 1, 1) := dk_27 (dk_at dksX0_marginRow_0 3 rfl rfl)
theorem dX0_marginRow_4 : decode cX0_marginRow 4 = .ok (.iload_n 2, 1) := dk_28 (dk_at dksX0_marginRow_0 4 rfl rfl)
theorem dX0_marginRow_5 : decode cX0_marginRow 5 = .ok (.invokevirtual 100, 3) := dk_182 0 100 (dk_at dksX0_marginRow_0 5 rfl rfl)
theorem dX0_marginRow_8 : decode cX0_marginRow 8 = .ok (.i2l, 1) := dk_133 (dk_at dksX0_marginRow_0 8 rfl rfl)
theorem dX0_marginRow_9 : decode cX0_marginRow 9 = .ok (.lastore, 1) := dk_80 (dk_at dksX0_marginRow_0 9 rfl rfl)
theorem dX0_marginRow_10 : decode cX0_marginRow 10 = .ok (.goto 7, 3) := dk_167 0 7 (dk_at dksX0_marginRow_0 10 rfl rfl)
theorem dX0_marginRow_13 : decode cX0_marginRow 13 = .ok (.astore 4, 2) := dk_58 4 (dk_at dksX0_marginRow_0 13 rfl rfl)
theorem dX0_marginRow_15 : decode cX0_marginRow 15 = .ok (.iconst 1, 1) := dk_4 (dk_at dksX0_marginRow_0 15 rfl rfl)
theorem dX0_marginRow_16 : decode cX0_marginRow 16 = .ok (.ireturn, 1) := dk_172 (dk_at dksX0_marginRow_0 16 rfl rfl)
theorem dX0_marginRow_17 : decode cX0_marginRow 17 = .ok (.iconst 0, 1) := dk_3 (dk_at dksX0_marginRow_0 17 rfl rfl)
theorem dX0_marginRow_18 : decode cX0_marginRow 18 = .ok (.ireturn, 1) := dk_172 (dk_at dksX0_marginRow_0 18 rfl rfl)
abbrev cX0_write : ByteArray := method_30_code
def yX0_write : MethodName := ⟨RX0, "write", "(LNoteImporter;I[J)I"⟩
def dkwX0_write_0 : List UInt8 := [44, 3, 42, 27, 182, 0, 103, 133, 80, 167, 0, 6, 78, 4, 172, 3, 172]
abbrev dktX0_write_0 : List UInt8 := dkwX0_write_0 ++ []
theorem dksX0_write_0 : cX0_write.data.toList.drop 0 = dktX0_write_0 := by decide +kernel
theorem dX0_write_0 : decode cX0_write 0 = .ok (.aload_n 2, 1) := dk_44 (dk_at dksX0_write_0 0 rfl rfl)
theorem dX0_write_1 : decode cX0_write 1 = .ok (.iconst 0, 1) := dk_3 (dk_at dksX0_write_0 1 rfl rfl)
theorem dX0_write_2 : decode cX0_write 2 = .ok (.aload_n 0, 1) := dk_42 (dk_at dksX0_write_0 2 rfl rfl)
theorem dX0_write_3 : decode cX0_write 3 = .ok (.iload_n 1, 1) := dk_27 (dk_at dksX0_write_0 3 rfl rfl)
theorem dX0_write_4 : decode cX0_write 4 = .ok (.invokevirtual 103, 3) := dk_182 0 103 (dk_at dksX0_write_0 4 rfl rfl)
theorem dX0_write_7 : decode cX0_write 7 = .ok (.i2l, 1) := dk_133 (dk_at dksX0_write_0 7 rfl rfl)
theorem dX0_write_8 : decode cX0_write 8 = .ok (.lastore, 1) := dk_80 (dk_at dksX0_write_0 8 rfl rfl)
theorem dX0_write_9 : decode cX0_write 9 = .ok (.goto 6, 3) := dk_167 0 6 (dk_at dksX0_write_0 9 rfl rfl)
theorem dX0_write_12 : decode cX0_write 12 = .ok (.astore_n 3, 1) := dk_78 (dk_at dksX0_write_0 12 rfl rfl)
theorem dX0_write_13 : decode cX0_write 13 = .ok (.iconst 1, 1) := dk_4 (dk_at dksX0_write_0 13 rfl rfl)
theorem dX0_write_14 : decode cX0_write 14 = .ok (.ireturn, 1) := dk_172 (dk_at dksX0_write_0 14 rfl rfl)
theorem dX0_write_15 : decode cX0_write 15 = .ok (.iconst 0, 1) := dk_3 (dk_at dksX0_write_0 15 rfl rfl)
theorem dX0_write_16 : decode cX0_write 16 = .ok (.ireturn, 1) := dk_172 (dk_at dksX0_write_0 16 rfl rfl)
abbrev cX0_outputByte : ByteArray := method_31_code
def yX0_outputByte : MethodName := ⟨RX0, "outputByte", "(LNoteImporter;I[J)I"⟩
def dkwX0_outputByte_0 : List UInt8 := [44, 3, 42, 27, 182, 0, 106, 133, 80, 167, 0, 6, 78, 4, 172, 3, 172]
abbrev dktX0_outputByte_0 : List UInt8 := dkwX0_outputByte_0 ++ []
theorem dksX0_outputByte_0 : cX0_outputByte.data.toList.drop 0 = dktX0_outputByte_0 := by decide +kernel
theorem dX0_outputByte_0 : decode cX0_outputByte 0 = .ok (.aload_n 2, 1) := dk_44 (dk_at dksX0_outputByte_0 0 rfl rfl)
theorem dX0_outputByte_1 : decode cX0_outputByte 1 = .ok (.iconst 0, 1) := dk_3 (dk_at dksX0_outputByte_0 1 rfl rfl)
theorem dX0_outputByte_2 : decode cX0_outputByte 2 = .ok (.aload_n 0, 1) := dk_42 (dk_at dksX0_outputByte_0 2 rfl rfl)
theorem dX0_outputByte_3 : decode cX0_outputByte 3 = .ok (.iload_n 1, 1) := dk_27 (dk_at dksX0_outputByte_0 3 rfl rfl)
theorem dX0_outputByte_4 : decode cX0_outputByte 4 = .ok (.invokevirtual 106, 3) := dk_182 0 106 (dk_at dksX0_outputByte_0 4 rfl rfl)
theorem dX0_outputByte_7 : decode cX0_outputByte 7 = .ok (.i2l, 1) := dk_133 (dk_at dksX0_outputByte_0 7 rfl rfl)
theorem dX0_outputByte_8 : decode cX0_outputByte 8 = .ok (.lastore, 1) := dk_80 (dk_at dksX0_outputByte_0 8 rfl rfl)
theorem dX0_outputByte_9 : decode cX0_outputByte 9 = .ok (.goto 6, 3) := dk_167 0 6 (dk_at dksX0_outputByte_0 9 rfl rfl)
theorem dX0_outputByte_12 : decode cX0_outputByte 12 = .ok (.astore_n 3, 1) := dk_78 (dk_at dksX0_outputByte_0 12 rfl rfl)
theorem dX0_outputByte_13 : decode cX0_outputByte 13 = .ok (.iconst 1, 1) := dk_4 (dk_at dksX0_outputByte_0 13 rfl rfl)
theorem dX0_outputByte_14 : decode cX0_outputByte 14 = .ok (.ireturn, 1) := dk_172 (dk_at dksX0_outputByte_0 14 rfl rfl)
theorem dX0_outputByte_15 : decode cX0_outputByte 15 = .ok (.iconst 0, 1) := dk_3 (dk_at dksX0_outputByte_0 15 rfl rfl)
theorem dX0_outputByte_16 : decode cX0_outputByte 16 = .ok (.ireturn, 1) := dk_172 (dk_at dksX0_outputByte_0 16 rfl rfl)
abbrev cX0_save : ByteArray := method_32_code
def yX0_save : MethodName := ⟨RX0, "save", "(LNoteImporter;I)I"⟩
def dkwX0_save_0 : List UInt8 := [42, 27, 182, 0, 109, 167, 0, 6, 77, 4, 172, 3, 172]
abbrev dktX0_save_0 : List UInt8 := dkwX0_save_0 ++ []
theorem dksX0_save_0 : cX0_save.data.toList.drop 0 = dktX0_save_0 := by decide +kernel
theorem dX0_save_0 : decode cX0_save 0 = .ok (.aload_n 0, 1) := dk_42 (dk_at dksX0_save_0 0 rfl rfl)
theorem dX0_save_1 : decode cX0_save 1 = .ok (.iload_n 1, 1) := dk_27 (dk_at dksX0_save_0 1 rfl rfl)
theorem dX0_save_2 : decode cX0_save 2 = .ok (.invokevirtual 109, 3) := dk_182 0 109 (dk_at dksX0_save_0 2 rfl rfl)
theorem dX0_save_5 : decode cX0_save 5 = .ok (.goto 6, 3) := dk_167 0 6 (dk_at dksX0_save_0 5 rfl rfl)
theorem dX0_save_8 : decode cX0_save 8 = .ok (.astore_n 2, 1) := dk_77 (dk_at dksX0_save_0 8 rfl rfl)
theorem dX0_save_9 : decode cX0_save 9 = .ok (.iconst 1, 1) := dk_4 (dk_at dksX0_save_0 9 rfl rfl)
theorem dX0_save_10 : decode cX0_save 10 = .ok (.ireturn, 1) := dk_172 (dk_at dksX0_save_0 10 rfl rfl)
theorem dX0_save_11 : decode cX0_save 11 = .ok (.iconst 0, 1) := dk_3 (dk_at dksX0_save_0 11 rfl rfl)
theorem dX0_save_12 : decode cX0_save 12 = .ok (.ireturn, 1) := dk_172 (dk_at dksX0_save_0 12 rfl rfl)
abbrev cX0_restore : ByteArray := method_33_code
def yX0_restore : MethodName := ⟨RX0, "restore", "(LNoteImporter;I)I"⟩
def dkwX0_restore_0 : List UInt8 := [42, 27, 182, 0, 113, 167, 0, 9, 77, 4, 172, 77, 5, 172, 3, 172]
abbrev dktX0_restore_0 : List UInt8 := dkwX0_restore_0 ++ []
theorem dksX0_restore_0 : cX0_restore.data.toList.drop 0 = dktX0_restore_0 := by decide +kernel
theorem dX0_restore_0 : decode cX0_restore 0 = .ok (.aload_n 0, 1) := dk_42 (dk_at dksX0_restore_0 0 rfl rfl)
theorem dX0_restore_1 : decode cX0_restore 1 = .ok (.iload_n 1, 1) := dk_27 (dk_at dksX0_restore_0 1 rfl rfl)
theorem dX0_restore_2 : decode cX0_restore 2 = .ok (.invokevirtual 113, 3) := dk_182 0 113 (dk_at dksX0_restore_0 2 rfl rfl)
theorem dX0_restore_5 : decode cX0_restore 5 = .ok (.goto 9, 3) := dk_167 0 9 (dk_at dksX0_restore_0 5 rfl rfl)
theorem dX0_restore_8 : decode cX0_restore 8 = .ok (.astore_n 2, 1) := dk_77 (dk_at dksX0_restore_0 8 rfl rfl)
theorem dX0_restore_9 : decode cX0_restore 9 = .ok (.iconst 1, 1) := dk_4 (dk_at dksX0_restore_0 9 rfl rfl)
theorem dX0_restore_10 : decode cX0_restore 10 = .ok (.ireturn, 1) := dk_172 (dk_at dksX0_restore_0 10 rfl rfl)
theorem dX0_restore_11 : decode cX0_restore 11 = .ok (.astore_n 2, 1) := dk_77 (dk_at dksX0_restore_0 11 rfl rfl)
theorem dX0_restore_12 : decode cX0_restore 12 = .ok (.iconst 2, 1) := dk_5 (dk_at dksX0_restore_0 12 rfl rfl)
theorem dX0_restore_13 : decode cX0_restore 13 = .ok (.ireturn, 1) := dk_172 (dk_at dksX0_restore_0 13 rfl rfl)
theorem dX0_restore_14 : decode cX0_restore 14 = .ok (.iconst 0, 1) := dk_3 (dk_at dksX0_restore_0 14 rfl rfl)
theorem dX0_restore_15 : decode cX0_restore 15 = .ok (.ireturn, 1) := dk_172 (dk_at dksX0_restore_0 15 rfl rfl)
theorem q119 : (Jvm.Cond.initialized "NoteImporterLaw") ∈ lw_all := lw_g (lw_at lw_m1 0 rfl) rfl
theorem q186 : (Jvm.Cond.classLink "NoteImporterLaw" (8 : Nat) "NoteImporter") ∈ lw_all := lw_g (lw_at lw_m1 67 rfl) rfl
theorem q188 : (Jvm.Cond.methodLink "NoteImporterLaw" (116 : Nat) ({ cls := "NoteImporter", name := "<init>", desc := "()V" } : Jvm.MethodName)) ∈ lw_all := lw_g (lw_at lw_m1 69 rfl) rfl
theorem q651 : (Jvm.Cond.methodLink "NoteImporterLaw" (215 : Nat) ({ cls := "NoteImporter", name := "strongestGroup", desc := "()I" } : Jvm.MethodName)) ∈ lw_all := lw_g (lw_at lw_m3 52 rfl) rfl
theorem q1647 : (Jvm.Cond.methodLink "NoteImporterLaw" (222 : Nat) ({ cls := "NoteImporter", name := "hottestPage", desc := "()I" } : Jvm.MethodName)) ∈ lw_all := lw_g (lw_at lw_m7 88 rfl) rfl
theorem q1680 : (Jvm.Cond.methodLink "NoteImporterLaw" (232 : Nat) ({ cls := "NoteImporter", name := "overflows", desc := "()I" } : Jvm.MethodName)) ∈ lw_all := lw_g (lw_at lw_m7 121 rfl) rfl
theorem q1831 : (Jvm.Cond.methodLink "NoteImporterLaw" (132 : Nat) ({ cls := "NoteImporter", name := "importText", desc := "()I" } : Jvm.MethodName)) ∈ lw_all := lw_g (lw_at lw_m8 32 rfl) rfl
theorem q2588 : (Jvm.Cond.methodLink "NoteImporterLaw" (136 : Nat) ({ cls := "NoteImporter", name := "errorCode", desc := "()I" } : Jvm.MethodName)) ∈ lw_all := lw_g (lw_at lw_m11 69 rfl) rfl
theorem q2592 : (Jvm.Cond.methodLink "NoteImporterLaw" (140 : Nat) ({ cls := "NoteImporter", name := "errorPosition", desc := "()I" } : Jvm.MethodName)) ∈ lw_all := lw_g (lw_at lw_m11 73 rfl) rfl
theorem q2596 : (Jvm.Cond.methodLink "NoteImporterLaw" (120 : Nat) ({ cls := "NoteImporterLaw", name := "appendText", desc := "(LNoteImporter;I[J)I" } : Jvm.MethodName)) ∈ lw_all := lw_g (lw_at lw_m11 77 rfl) rfl
theorem q2597 : (Jvm.Cond.static ({ cls := "NoteImporterLaw", name := "appendText", desc := "(LNoteImporter;I[J)I" } : Jvm.MethodName)) ∈ lw_all := lw_g (lw_at lw_m11 78 rfl) rfl
theorem q2598 : (Jvm.Cond.codeWith ({ cls := "NoteImporterLaw", name := "appendText", desc := "(LNoteImporter;I[J)I" } : Jvm.MethodName) method_3_code (4 : Nat) (Option.some Jvm.ClassFile.FieldType.int) [((0 : Nat), (9 : Nat), (12 : Nat), (13 : Nat))]) ∈ lw_all := lw_g (lw_at lw_m11 79 rfl) rfl
theorem q2599 : (Jvm.Cond.classLink "NoteImporterLaw" (13 : Nat) "java/lang/IllegalStateException") ∈ lw_all := lw_g (lw_at lw_m11 80 rfl) rfl
theorem q2600 : (Jvm.Cond.methodLink "NoteImporterLaw" (7 : Nat) ({ cls := "NoteImporter", name := "appendText", desc := "(I)I" } : Jvm.MethodName)) ∈ lw_all := lw_g (lw_at lw_m11 81 rfl) rfl
theorem q2622 : (Jvm.Cond.methodLink "NoteImporterLaw" (129 : Nat) ({ cls := "NoteImporterLaw", name := "truncateText", desc := "(LNoteImporter;I[J)I" } : Jvm.MethodName)) ∈ lw_all := lw_g (lw_at lw_m11 103 rfl) rfl
theorem q2623 : (Jvm.Cond.static ({ cls := "NoteImporterLaw", name := "truncateText", desc := "(LNoteImporter;I[J)I" } : Jvm.MethodName)) ∈ lw_all := lw_g (lw_at lw_m11 104 rfl) rfl
theorem q2624 : (Jvm.Cond.codeWith ({ cls := "NoteImporterLaw", name := "truncateText", desc := "(LNoteImporter;I[J)I" } : Jvm.MethodName) method_4_code (4 : Nat) (Option.some Jvm.ClassFile.FieldType.int) [((0 : Nat), (9 : Nat), (12 : Nat), (18 : Nat))]) ∈ lw_all := lw_g (lw_at lw_m11 105 rfl) rfl
theorem q2625 : (Jvm.Cond.classLink "NoteImporterLaw" (18 : Nat) "java/lang/IllegalArgumentException") ∈ lw_all := lw_g (lw_at lw_m11 106 rfl) rfl
theorem q2626 : (Jvm.Cond.methodLink "NoteImporterLaw" (15 : Nat) ({ cls := "NoteImporter", name := "truncateText", desc := "(I)I" } : Jvm.MethodName)) ∈ lw_all := lw_g (lw_at lw_m11 107 rfl) rfl
theorem q2636 : (Jvm.Cond.methodLink "NoteImporterLaw" (144 : Nat) ({ cls := "NoteImporterLaw", name := "count", desc := "(LNoteImporter;I[J)I" } : Jvm.MethodName)) ∈ lw_all := lw_g (lw_at lw_m11 117 rfl) rfl
theorem q2637 : (Jvm.Cond.static ({ cls := "NoteImporterLaw", name := "count", desc := "(LNoteImporter;I[J)I" } : Jvm.MethodName)) ∈ lw_all := lw_g (lw_at lw_m11 118 rfl) rfl
theorem q2638 : (Jvm.Cond.codeWith ({ cls := "NoteImporterLaw", name := "count", desc := "(LNoteImporter;I[J)I" } : Jvm.MethodName) method_5_code (4 : Nat) (Option.some Jvm.ClassFile.FieldType.int) [((0 : Nat), (9 : Nat), (12 : Nat), (18 : Nat))]) ∈ lw_all := lw_g (lw_at lw_m11 119 rfl) rfl
theorem q2639 : (Jvm.Cond.methodLink "NoteImporterLaw" (20 : Nat) ({ cls := "NoteImporter", name := "count", desc := "(I)I" } : Jvm.MethodName)) ∈ lw_all := lw_g (lw_at lw_m11 120 rfl) rfl
theorem q2644 : (Jvm.Cond.methodLink "NoteImporterLaw" (147 : Nat) ({ cls := "NoteImporterLaw", name := "addEdition", desc := "(LNoteImporter;II[J)I" } : Jvm.MethodName)) ∈ lw_all := lw_g (lw_at lw_m11 125 rfl) rfl
theorem q2645 : (Jvm.Cond.static ({ cls := "NoteImporterLaw", name := "addEdition", desc := "(LNoteImporter;II[J)I" } : Jvm.MethodName)) ∈ lw_all := lw_g (lw_at lw_m11 126 rfl) rfl
theorem q2646 : (Jvm.Cond.codeWith ({ cls := "NoteImporterLaw", name := "addEdition", desc := "(LNoteImporter;II[J)I" } : Jvm.MethodName) method_6_code (5 : Nat) (Option.some Jvm.ClassFile.FieldType.int) [((0 : Nat), (10 : Nat), (13 : Nat), (18 : Nat)), ((0 : Nat), (10 : Nat), (17 : Nat), (13 : Nat))]) ∈ lw_all := lw_g (lw_at lw_m11 127 rfl) rfl
theorem q2647 : (Jvm.Cond.methodLink "NoteImporterLaw" (23 : Nat) ({ cls := "NoteImporter", name := "addEdition", desc := "(II)I" } : Jvm.MethodName)) ∈ lw_all := lw_g (lw_at lw_m11 128 rfl) rfl
theorem q2768 : (Jvm.Cond.methodLink "NoteImporterLaw" (151 : Nat) ({ cls := "NoteImporterLaw", name := "setLayout", desc := "(LNoteImporter;III[J)I" } : Jvm.MethodName)) ∈ lw_all := lw_g (lw_at lw_m12 9 rfl) rfl
theorem q2769 : (Jvm.Cond.static ({ cls := "NoteImporterLaw", name := "setLayout", desc := "(LNoteImporter;III[J)I" } : Jvm.MethodName)) ∈ lw_all := lw_g (lw_at lw_m12 10 rfl) rfl
theorem q2770 : (Jvm.Cond.codeWith ({ cls := "NoteImporterLaw", name := "setLayout", desc := "(LNoteImporter;III[J)I" } : Jvm.MethodName) method_7_code (6 : Nat) (Option.some Jvm.ClassFile.FieldType.int) [((0 : Nat), (12 : Nat), (15 : Nat), (31 : Nat)), ((0 : Nat), (12 : Nat), (19 : Nat), (18 : Nat))]) ∈ lw_all := lw_g (lw_at lw_m12 11 rfl) rfl
theorem q2771 : (Jvm.Cond.classLink "NoteImporterLaw" (31 : Nat) "java/lang/IndexOutOfBoundsException") ∈ lw_all := lw_g (lw_at lw_m12 12 rfl) rfl
theorem q2774 : (Jvm.Cond.methodLink "NoteImporterLaw" (27 : Nat) ({ cls := "NoteImporter", name := "setLayout", desc := "(III)I" } : Jvm.MethodName)) ∈ lw_all := lw_g (lw_at lw_m12 15 rfl) rfl
theorem q2801 : (Jvm.Cond.methodLink "NoteImporterLaw" (155 : Nat) ({ cls := "NoteImporterLaw", name := "edition", desc := "(LNoteImporter;II[J)I" } : Jvm.MethodName)) ∈ lw_all := lw_g (lw_at lw_m12 42 rfl) rfl
theorem q2802 : (Jvm.Cond.static ({ cls := "NoteImporterLaw", name := "edition", desc := "(LNoteImporter;II[J)I" } : Jvm.MethodName)) ∈ lw_all := lw_g (lw_at lw_m12 43 rfl) rfl
theorem q2803 : (Jvm.Cond.codeWith ({ cls := "NoteImporterLaw", name := "edition", desc := "(LNoteImporter;II[J)I" } : Jvm.MethodName) method_8_code (5 : Nat) (Option.some Jvm.ClassFile.FieldType.int) [((0 : Nat), (10 : Nat), (13 : Nat), (31 : Nat)), ((0 : Nat), (10 : Nat), (17 : Nat), (18 : Nat))]) ∈ lw_all := lw_g (lw_at lw_m12 44 rfl) rfl
theorem q2804 : (Jvm.Cond.methodLink "NoteImporterLaw" (33 : Nat) ({ cls := "NoteImporter", name := "edition", desc := "(II)I" } : Jvm.MethodName)) ∈ lw_all := lw_g (lw_at lw_m12 45 rfl) rfl
theorem q2810 : (Jvm.Cond.methodLink "NoteImporterLaw" (158 : Nat) ({ cls := "NoteImporterLaw", name := "word", desc := "(LNoteImporter;III[J)I" } : Jvm.MethodName)) ∈ lw_all := lw_g (lw_at lw_m12 51 rfl) rfl
theorem q2811 : (Jvm.Cond.static ({ cls := "NoteImporterLaw", name := "word", desc := "(LNoteImporter;III[J)I" } : Jvm.MethodName)) ∈ lw_all := lw_g (lw_at lw_m12 52 rfl) rfl
theorem q2812 : (Jvm.Cond.codeWith ({ cls := "NoteImporterLaw", name := "word", desc := "(LNoteImporter;III[J)I" } : Jvm.MethodName) method_9_code (6 : Nat) (Option.some Jvm.ClassFile.FieldType.int) [((0 : Nat), (12 : Nat), (15 : Nat), (31 : Nat)), ((0 : Nat), (12 : Nat), (19 : Nat), (18 : Nat))]) ∈ lw_all := lw_g (lw_at lw_m12 53 rfl) rfl
theorem q2813 : (Jvm.Cond.methodLink "NoteImporterLaw" (36 : Nat) ({ cls := "NoteImporter", name := "word", desc := "(III)I" } : Jvm.MethodName)) ∈ lw_all := lw_g (lw_at lw_m12 54 rfl) rfl
theorem q2825 : (Jvm.Cond.methodLink "NoteImporterLaw" (161 : Nat) ({ cls := "NoteImporterLaw", name := "letter", desc := "(LNoteImporter;III[J)I" } : Jvm.MethodName)) ∈ lw_all := lw_g (lw_at lw_m12 66 rfl) rfl
theorem q2826 : (Jvm.Cond.static ({ cls := "NoteImporterLaw", name := "letter", desc := "(LNoteImporter;III[J)I" } : Jvm.MethodName)) ∈ lw_all := lw_g (lw_at lw_m12 67 rfl) rfl
theorem q2827 : (Jvm.Cond.codeWith ({ cls := "NoteImporterLaw", name := "letter", desc := "(LNoteImporter;III[J)I" } : Jvm.MethodName) method_10_code (6 : Nat) (Option.some Jvm.ClassFile.FieldType.int) [((0 : Nat), (12 : Nat), (15 : Nat), (31 : Nat))]) ∈ lw_all := lw_g (lw_at lw_m12 68 rfl) rfl
theorem q2828 : (Jvm.Cond.methodLink "NoteImporterLaw" (39 : Nat) ({ cls := "NoteImporter", name := "letter", desc := "(III)I" } : Jvm.MethodName)) ∈ lw_all := lw_g (lw_at lw_m12 69 rfl) rfl
theorem q2843 : (Jvm.Cond.methodLink "NoteImporterLaw" (164 : Nat) ({ cls := "NoteImporterLaw", name := "insertWord", desc := "(LNoteImporter;II[J)I" } : Jvm.MethodName)) ∈ lw_all := lw_g (lw_at lw_m12 84 rfl) rfl
theorem q2844 : (Jvm.Cond.static ({ cls := "NoteImporterLaw", name := "insertWord", desc := "(LNoteImporter;II[J)I" } : Jvm.MethodName)) ∈ lw_all := lw_g (lw_at lw_m12 85 rfl) rfl
theorem q2845 : (Jvm.Cond.codeWith ({ cls := "NoteImporterLaw", name := "insertWord", desc := "(LNoteImporter;II[J)I" } : Jvm.MethodName) method_11_code (5 : Nat) (Option.some Jvm.ClassFile.FieldType.int) [((0 : Nat), (10 : Nat), (13 : Nat), (31 : Nat)), ((0 : Nat), (10 : Nat), (17 : Nat), (18 : Nat)), ((0 : Nat), (10 : Nat), (21 : Nat), (13 : Nat))]) ∈ lw_all := lw_g (lw_at lw_m12 86 rfl) rfl
theorem q2846 : (Jvm.Cond.methodLink "NoteImporterLaw" (42 : Nat) ({ cls := "NoteImporter", name := "insertWord", desc := "(II)I" } : Jvm.MethodName)) ∈ lw_all := lw_g (lw_at lw_m12 87 rfl) rfl
theorem q2880 : (Jvm.Cond.methodLink "NoteImporterLaw" (167 : Nat) ({ cls := "NoteImporterLaw", name := "deleteWord", desc := "(LNoteImporter;II[J)I" } : Jvm.MethodName)) ∈ lw_all := lw_g (lw_at lw_m12 121 rfl) rfl
theorem q2881 : (Jvm.Cond.static ({ cls := "NoteImporterLaw", name := "deleteWord", desc := "(LNoteImporter;II[J)I" } : Jvm.MethodName)) ∈ lw_all := lw_g (lw_at lw_m12 122 rfl) rfl
theorem q2882 : (Jvm.Cond.codeWith ({ cls := "NoteImporterLaw", name := "deleteWord", desc := "(LNoteImporter;II[J)I" } : Jvm.MethodName) method_12_code (5 : Nat) (Option.some Jvm.ClassFile.FieldType.int) [((0 : Nat), (10 : Nat), (13 : Nat), (31 : Nat)), ((0 : Nat), (10 : Nat), (17 : Nat), (13 : Nat))]) ∈ lw_all := lw_g (lw_at lw_m12 123 rfl) rfl
theorem q2883 : (Jvm.Cond.methodLink "NoteImporterLaw" (45 : Nat) ({ cls := "NoteImporter", name := "deleteWord", desc := "(II)I" } : Jvm.MethodName)) ∈ lw_all := lw_g (lw_at lw_m12 124 rfl) rfl
theorem q2900 : (Jvm.Cond.methodLink "NoteImporterLaw" (170 : Nat) ({ cls := "NoteImporterLaw", name := "setParagraph", desc := "(LNoteImporter;IIZ[J)I" } : Jvm.MethodName)) ∈ lw_all := lw_g (lw_at lw_m12 141 rfl) rfl
theorem q2901 : (Jvm.Cond.static ({ cls := "NoteImporterLaw", name := "setParagraph", desc := "(LNoteImporter;IIZ[J)I" } : Jvm.MethodName)) ∈ lw_all := lw_g (lw_at lw_m12 142 rfl) rfl
theorem q2902 : (Jvm.Cond.codeWith ({ cls := "NoteImporterLaw", name := "setParagraph", desc := "(LNoteImporter;IIZ[J)I" } : Jvm.MethodName) method_13_code (6 : Nat) (Option.some Jvm.ClassFile.FieldType.int) [((0 : Nat), (19 : Nat), (22 : Nat), (31 : Nat))]) ∈ lw_all := lw_g (lw_at lw_m12 143 rfl) rfl
theorem q2903 : (Jvm.Cond.methodLink "NoteImporterLaw" (48 : Nat) ({ cls := "NoteImporter", name := "setParagraph", desc := "(IIZ)Z" } : Jvm.MethodName)) ∈ lw_all := lw_g (lw_at lw_m12 144 rfl) rfl
theorem q2907 : (Jvm.Cond.methodLink "NoteImporterLaw" (174 : Nat) ({ cls := "NoteImporterLaw", name := "setTarget", desc := "(LNoteImporter;I[J)I" } : Jvm.MethodName)) ∈ lw_all := lw_g (lw_at lw_m12 148 rfl) rfl
theorem q2908 : (Jvm.Cond.static ({ cls := "NoteImporterLaw", name := "setTarget", desc := "(LNoteImporter;I[J)I" } : Jvm.MethodName)) ∈ lw_all := lw_g (lw_at lw_m12 149 rfl) rfl
theorem q2909 : (Jvm.Cond.codeWith ({ cls := "NoteImporterLaw", name := "setTarget", desc := "(LNoteImporter;I[J)I" } : Jvm.MethodName) method_14_code (4 : Nat) (Option.some Jvm.ClassFile.FieldType.int) [((0 : Nat), (9 : Nat), (12 : Nat), (31 : Nat))]) ∈ lw_all := lw_g (lw_at lw_m12 150 rfl) rfl
theorem q2910 : (Jvm.Cond.methodLink "NoteImporterLaw" (52 : Nat) ({ cls := "NoteImporter", name := "setTarget", desc := "(I)I" } : Jvm.MethodName)) ∈ lw_all := lw_g (lw_at lw_m12 151 rfl) rfl
theorem q2914 : (Jvm.Cond.methodLink "NoteImporterLaw" (177 : Nat) ({ cls := "NoteImporterLaw", name := "addReader", desc := "(LNoteImporter;[J)I" } : Jvm.MethodName)) ∈ lw_all := lw_g (lw_at lw_m12 155 rfl) rfl
theorem q2915 : (Jvm.Cond.static ({ cls := "NoteImporterLaw", name := "addReader", desc := "(LNoteImporter;[J)I" } : Jvm.MethodName)) ∈ lw_all := lw_g (lw_at lw_m12 156 rfl) rfl
theorem q2916 : (Jvm.Cond.codeWith ({ cls := "NoteImporterLaw", name := "addReader", desc := "(LNoteImporter;[J)I" } : Jvm.MethodName) method_15_code (3 : Nat) (Option.some Jvm.ClassFile.FieldType.int) [((0 : Nat), (8 : Nat), (11 : Nat), (18 : Nat)), ((0 : Nat), (8 : Nat), (14 : Nat), (13 : Nat))]) ∈ lw_all := lw_g (lw_at lw_m12 157 rfl) rfl
theorem q2917 : (Jvm.Cond.methodLink "NoteImporterLaw" (55 : Nat) ({ cls := "NoteImporter", name := "addReader", desc := "()I" } : Jvm.MethodName)) ∈ lw_all := lw_g (lw_at lw_m12 158 rfl) rfl
theorem q2923 : (Jvm.Cond.methodLink "NoteImporterLaw" (181 : Nat) ({ cls := "NoteImporterLaw", name := "addNote", desc := "(LNoteImporter;IIIII[J)I" } : Jvm.MethodName)) ∈ lw_all := lw_g (lw_at lw_m12 164 rfl) rfl
theorem q2924 : (Jvm.Cond.static ({ cls := "NoteImporterLaw", name := "addNote", desc := "(LNoteImporter;IIIII[J)I" } : Jvm.MethodName)) ∈ lw_all := lw_g (lw_at lw_m12 165 rfl) rfl
theorem q2925 : (Jvm.Cond.codeWith ({ cls := "NoteImporterLaw", name := "addNote", desc := "(LNoteImporter;IIIII[J)I" } : Jvm.MethodName) method_16_code (8 : Nat) (Option.some Jvm.ClassFile.FieldType.int) [((0 : Nat), (16 : Nat), (19 : Nat), (31 : Nat)), ((0 : Nat), (16 : Nat), (23 : Nat), (18 : Nat)), ((0 : Nat), (16 : Nat), (27 : Nat), (13 : Nat))]) ∈ lw_all := lw_g (lw_at lw_m12 166 rfl) rfl
theorem q2926 : (Jvm.Cond.methodLink "NoteImporterLaw" (59 : Nat) ({ cls := "NoteImporter", name := "addNote", desc := "(IIIII)I" } : Jvm.MethodName)) ∈ lw_all := lw_g (lw_at lw_m12 167 rfl) rfl
theorem q2932 : (Jvm.Cond.methodLink "NoteImporterLaw" (185 : Nat) ({ cls := "NoteImporterLaw", name := "note", desc := "(LNoteImporter;II[J)I" } : Jvm.MethodName)) ∈ lw_all := lw_g (lw_at lw_m12 173 rfl) rfl
theorem q2933 : (Jvm.Cond.static ({ cls := "NoteImporterLaw", name := "note", desc := "(LNoteImporter;II[J)I" } : Jvm.MethodName)) ∈ lw_all := lw_g (lw_at lw_m12 174 rfl) rfl
theorem q2934 : (Jvm.Cond.codeWith ({ cls := "NoteImporterLaw", name := "note", desc := "(LNoteImporter;II[J)I" } : Jvm.MethodName) method_17_code (5 : Nat) (Option.some Jvm.ClassFile.FieldType.int) [((0 : Nat), (10 : Nat), (13 : Nat), (31 : Nat)), ((0 : Nat), (10 : Nat), (17 : Nat), (18 : Nat))]) ∈ lw_all := lw_g (lw_at lw_m12 175 rfl) rfl
theorem q2935 : (Jvm.Cond.methodLink "NoteImporterLaw" (63 : Nat) ({ cls := "NoteImporter", name := "note", desc := "(II)I" } : Jvm.MethodName)) ∈ lw_all := lw_g (lw_at lw_m12 176 rfl) rfl
theorem q2943 : (Jvm.Cond.methodLink "NoteImporterLaw" (188 : Nat) ({ cls := "NoteImporterLaw", name := "removeNote", desc := "(LNoteImporter;[J)I" } : Jvm.MethodName)) ∈ lw_all := lw_g (lw_at lw_m12 184 rfl) rfl
theorem q2944 : (Jvm.Cond.static ({ cls := "NoteImporterLaw", name := "removeNote", desc := "(LNoteImporter;[J)I" } : Jvm.MethodName)) ∈ lw_all := lw_g (lw_at lw_m12 185 rfl) rfl
theorem q2945 : (Jvm.Cond.codeWith ({ cls := "NoteImporterLaw", name := "removeNote", desc := "(LNoteImporter;[J)I" } : Jvm.MethodName) method_18_code (3 : Nat) (Option.some Jvm.ClassFile.FieldType.int) [((0 : Nat), (8 : Nat), (11 : Nat), (13 : Nat))]) ∈ lw_all := lw_g (lw_at lw_m12 186 rfl) rfl
theorem q2946 : (Jvm.Cond.methodLink "NoteImporterLaw" (66 : Nat) ({ cls := "NoteImporter", name := "removeNote", desc := "()I" } : Jvm.MethodName)) ∈ lw_all := lw_g (lw_at lw_m12 187 rfl) rfl
theorem q2950 : (Jvm.Cond.methodLink "NoteImporterLaw" (191 : Nat) ({ cls := "NoteImporterLaw", name := "partner", desc := "(LNoteImporter;II[J)I" } : Jvm.MethodName)) ∈ lw_all := lw_g (lw_at lw_m12 191 rfl) rfl
theorem q2951 : (Jvm.Cond.static ({ cls := "NoteImporterLaw", name := "partner", desc := "(LNoteImporter;II[J)I" } : Jvm.MethodName)) ∈ lw_all := lw_g (lw_at lw_m12 192 rfl) rfl
theorem q2952 : (Jvm.Cond.codeWith ({ cls := "NoteImporterLaw", name := "partner", desc := "(LNoteImporter;II[J)I" } : Jvm.MethodName) method_19_code (5 : Nat) (Option.some Jvm.ClassFile.FieldType.int) [((0 : Nat), (10 : Nat), (13 : Nat), (31 : Nat))]) ∈ lw_all := lw_g (lw_at lw_m12 193 rfl) rfl
theorem q2953 : (Jvm.Cond.methodLink "NoteImporterLaw" (69 : Nat) ({ cls := "NoteImporter", name := "partner", desc := "(II)I" } : Jvm.MethodName)) ∈ lw_all := lw_g (lw_at lw_m12 194 rfl) rfl
theorem q2957 : (Jvm.Cond.methodLink "NoteImporterLaw" (194 : Nat) ({ cls := "NoteImporterLaw", name := "partners", desc := "(LNoteImporter;I[J)I" } : Jvm.MethodName)) ∈ lw_all := lw_g (lw_at lw_m12 198 rfl) rfl
theorem q2958 : (Jvm.Cond.static ({ cls := "NoteImporterLaw", name := "partners", desc := "(LNoteImporter;I[J)I" } : Jvm.MethodName)) ∈ lw_all := lw_g (lw_at lw_m12 199 rfl) rfl
theorem q2959 : (Jvm.Cond.codeWith ({ cls := "NoteImporterLaw", name := "partners", desc := "(LNoteImporter;I[J)I" } : Jvm.MethodName) method_20_code (4 : Nat) (Option.some Jvm.ClassFile.FieldType.int) [((0 : Nat), (9 : Nat), (12 : Nat), (31 : Nat))]) ∈ lw_all := lw_g (lw_at lw_m12 200 rfl) rfl
theorem q2960 : (Jvm.Cond.methodLink "NoteImporterLaw" (72 : Nat) ({ cls := "NoteImporter", name := "partners", desc := "(I)I" } : Jvm.MethodName)) ∈ lw_all := lw_g (lw_at lw_m12 201 rfl) rfl
theorem q2965 : (Jvm.Cond.methodLink "NoteImporterLaw" (197 : Nat) ({ cls := "NoteImporterLaw", name := "anchor", desc := "(LNoteImporter;II[J)I" } : Jvm.MethodName)) ∈ lw_all := lw_g (lw_at lw_m12 206 rfl) rfl
theorem q2966 : (Jvm.Cond.static ({ cls := "NoteImporterLaw", name := "anchor", desc := "(LNoteImporter;II[J)I" } : Jvm.MethodName)) ∈ lw_all := lw_g (lw_at lw_m12 207 rfl) rfl
theorem q2967 : (Jvm.Cond.codeWith ({ cls := "NoteImporterLaw", name := "anchor", desc := "(LNoteImporter;II[J)I" } : Jvm.MethodName) method_21_code (5 : Nat) (Option.some Jvm.ClassFile.FieldType.int) [((0 : Nat), (10 : Nat), (13 : Nat), (31 : Nat)), ((0 : Nat), (10 : Nat), (17 : Nat), (18 : Nat))]) ∈ lw_all := lw_g (lw_at lw_m12 208 rfl) rfl
theorem q2968 : (Jvm.Cond.methodLink "NoteImporterLaw" (75 : Nat) ({ cls := "NoteImporter", name := "anchor", desc := "(II)I" } : Jvm.MethodName)) ∈ lw_all := lw_g (lw_at lw_m12 209 rfl) rfl
theorem q2972 : (Jvm.Cond.methodLink "NoteImporterLaw" (200 : Nat) ({ cls := "NoteImporterLaw", name := "anchors", desc := "(LNoteImporter;I[J)I" } : Jvm.MethodName)) ∈ lw_all := lw_g (lw_at lw_m12 213 rfl) rfl
theorem q2973 : (Jvm.Cond.static ({ cls := "NoteImporterLaw", name := "anchors", desc := "(LNoteImporter;I[J)I" } : Jvm.MethodName)) ∈ lw_all := lw_g (lw_at lw_m12 214 rfl) rfl
theorem q2974 : (Jvm.Cond.codeWith ({ cls := "NoteImporterLaw", name := "anchors", desc := "(LNoteImporter;I[J)I" } : Jvm.MethodName) method_22_code (4 : Nat) (Option.some Jvm.ClassFile.FieldType.int) [((0 : Nat), (9 : Nat), (12 : Nat), (18 : Nat))]) ∈ lw_all := lw_g (lw_at lw_m12 215 rfl) rfl
theorem q2975 : (Jvm.Cond.methodLink "NoteImporterLaw" (78 : Nat) ({ cls := "NoteImporter", name := "anchors", desc := "(I)I" } : Jvm.MethodName)) ∈ lw_all := lw_g (lw_at lw_m12 216 rfl) rfl
theorem q2979 : (Jvm.Cond.methodLink "NoteImporterLaw" (203 : Nat) ({ cls := "NoteImporterLaw", name := "setThreshold", desc := "(LNoteImporter;I[J)I" } : Jvm.MethodName)) ∈ lw_all := lw_g (lw_at lw_m12 220 rfl) rfl
theorem q2980 : (Jvm.Cond.static ({ cls := "NoteImporterLaw", name := "setThreshold", desc := "(LNoteImporter;I[J)I" } : Jvm.MethodName)) ∈ lw_all := lw_g (lw_at lw_m12 221 rfl) rfl
theorem q2981 : (Jvm.Cond.codeWith ({ cls := "NoteImporterLaw", name := "setThreshold", desc := "(LNoteImporter;I[J)I" } : Jvm.MethodName) method_23_code (4 : Nat) (Option.some Jvm.ClassFile.FieldType.int) [((0 : Nat), (9 : Nat), (12 : Nat), (18 : Nat))]) ∈ lw_all := lw_g (lw_at lw_m12 222 rfl) rfl
theorem q2982 : (Jvm.Cond.methodLink "NoteImporterLaw" (81 : Nat) ({ cls := "NoteImporter", name := "setThreshold", desc := "(I)I" } : Jvm.MethodName)) ∈ lw_all := lw_g (lw_at lw_m12 223 rfl) rfl
theorem q2987 : (Jvm.Cond.methodLink "NoteImporterLaw" (206 : Nat) ({ cls := "NoteImporterLaw", name := "areAlike", desc := "(LNoteImporter;II[J)I" } : Jvm.MethodName)) ∈ lw_all := lw_g (lw_at lw_m12 228 rfl) rfl
theorem q2988 : (Jvm.Cond.static ({ cls := "NoteImporterLaw", name := "areAlike", desc := "(LNoteImporter;II[J)I" } : Jvm.MethodName)) ∈ lw_all := lw_g (lw_at lw_m12 229 rfl) rfl
theorem q2989 : (Jvm.Cond.codeWith ({ cls := "NoteImporterLaw", name := "areAlike", desc := "(LNoteImporter;II[J)I" } : Jvm.MethodName) method_24_code (5 : Nat) (Option.some Jvm.ClassFile.FieldType.int) [((0 : Nat), (17 : Nat), (20 : Nat), (31 : Nat))]) ∈ lw_all := lw_g (lw_at lw_m12 230 rfl) rfl
theorem q2990 : (Jvm.Cond.methodLink "NoteImporterLaw" (84 : Nat) ({ cls := "NoteImporter", name := "areAlike", desc := "(II)Z" } : Jvm.MethodName)) ∈ lw_all := lw_g (lw_at lw_m12 231 rfl) rfl
theorem q2995 : (Jvm.Cond.methodLink "NoteImporterLaw" (209 : Nat) ({ cls := "NoteImporterLaw", name := "groupOf", desc := "(LNoteImporter;I[J)I" } : Jvm.MethodName)) ∈ lw_all := lw_g (lw_at lw_m12 236 rfl) rfl
theorem q2996 : (Jvm.Cond.static ({ cls := "NoteImporterLaw", name := "groupOf", desc := "(LNoteImporter;I[J)I" } : Jvm.MethodName)) ∈ lw_all := lw_g (lw_at lw_m12 237 rfl) rfl
theorem q2997 : (Jvm.Cond.codeWith ({ cls := "NoteImporterLaw", name := "groupOf", desc := "(LNoteImporter;I[J)I" } : Jvm.MethodName) method_25_code (4 : Nat) (Option.some Jvm.ClassFile.FieldType.int) [((0 : Nat), (9 : Nat), (12 : Nat), (31 : Nat))]) ∈ lw_all := lw_g (lw_at lw_m12 238 rfl) rfl
theorem q2998 : (Jvm.Cond.methodLink "NoteImporterLaw" (88 : Nat) ({ cls := "NoteImporter", name := "groupOf", desc := "(I)I" } : Jvm.MethodName)) ∈ lw_all := lw_g (lw_at lw_m12 239 rfl) rfl
theorem q3002 : (Jvm.Cond.methodLink "NoteImporterLaw" (212 : Nat) ({ cls := "NoteImporterLaw", name := "group", desc := "(LNoteImporter;II[J)I" } : Jvm.MethodName)) ∈ lw_all := lw_g (lw_at lw_m13 3 rfl) rfl
theorem q3003 : (Jvm.Cond.static ({ cls := "NoteImporterLaw", name := "group", desc := "(LNoteImporter;II[J)I" } : Jvm.MethodName)) ∈ lw_all := lw_g (lw_at lw_m13 4 rfl) rfl
theorem q3004 : (Jvm.Cond.codeWith ({ cls := "NoteImporterLaw", name := "group", desc := "(LNoteImporter;II[J)I" } : Jvm.MethodName) method_26_code (5 : Nat) (Option.some Jvm.ClassFile.FieldType.int) [((0 : Nat), (10 : Nat), (13 : Nat), (31 : Nat)), ((0 : Nat), (10 : Nat), (17 : Nat), (18 : Nat))]) ∈ lw_all := lw_g (lw_at lw_m13 5 rfl) rfl
theorem q3005 : (Jvm.Cond.methodLink "NoteImporterLaw" (91 : Nat) ({ cls := "NoteImporter", name := "group", desc := "(II)I" } : Jvm.MethodName)) ∈ lw_all := lw_g (lw_at lw_m13 6 rfl) rfl
theorem q3015 : (Jvm.Cond.methodLink "NoteImporterLaw" (219 : Nat) ({ cls := "NoteImporterLaw", name := "heat", desc := "(LNoteImporter;I[J)I" } : Jvm.MethodName)) ∈ lw_all := lw_g (lw_at lw_m13 16 rfl) rfl
theorem q3016 : (Jvm.Cond.static ({ cls := "NoteImporterLaw", name := "heat", desc := "(LNoteImporter;I[J)I" } : Jvm.MethodName)) ∈ lw_all := lw_g (lw_at lw_m13 17 rfl) rfl
theorem q3017 : (Jvm.Cond.codeWith ({ cls := "NoteImporterLaw", name := "heat", desc := "(LNoteImporter;I[J)I" } : Jvm.MethodName) method_27_code (4 : Nat) (Option.some Jvm.ClassFile.FieldType.int) [((0 : Nat), (9 : Nat), (12 : Nat), (31 : Nat))]) ∈ lw_all := lw_g (lw_at lw_m13 18 rfl) rfl
theorem q3018 : (Jvm.Cond.methodLink "NoteImporterLaw" (94 : Nat) ({ cls := "NoteImporter", name := "heat", desc := "(I)I" } : Jvm.MethodName)) ∈ lw_all := lw_g (lw_at lw_m13 19 rfl) rfl
theorem q3022 : (Jvm.Cond.methodLink "NoteImporterLaw" (226 : Nat) ({ cls := "NoteImporterLaw", name := "marginGroups", desc := "(LNoteImporter;I[J)I" } : Jvm.MethodName)) ∈ lw_all := lw_g (lw_at lw_m13 23 rfl) rfl
theorem q3023 : (Jvm.Cond.static ({ cls := "NoteImporterLaw", name := "marginGroups", desc := "(LNoteImporter;I[J)I" } : Jvm.MethodName)) ∈ lw_all := lw_g (lw_at lw_m13 24 rfl) rfl
theorem q3024 : (Jvm.Cond.codeWith ({ cls := "NoteImporterLaw", name := "marginGroups", desc := "(LNoteImporter;I[J)I" } : Jvm.MethodName) method_28_code (4 : Nat) (Option.some Jvm.ClassFile.FieldType.int) [((0 : Nat), (9 : Nat), (12 : Nat), (31 : Nat))]) ∈ lw_all := lw_g (lw_at lw_m13 25 rfl) rfl
theorem q3025 : (Jvm.Cond.methodLink "NoteImporterLaw" (97 : Nat) ({ cls := "NoteImporter", name := "marginGroups", desc := "(I)I" } : Jvm.MethodName)) ∈ lw_all := lw_g (lw_at lw_m13 26 rfl) rfl
theorem q3077 : (Jvm.Cond.methodLink "NoteImporterLaw" (229 : Nat) ({ cls := "NoteImporterLaw", name := "marginRow", desc := "(LNoteImporter;II[J)I" } : Jvm.MethodName)) ∈ lw_all := lw_g (lw_at lw_m13 78 rfl) rfl
theorem q3078 : (Jvm.Cond.static ({ cls := "NoteImporterLaw", name := "marginRow", desc := "(LNoteImporter;II[J)I" } : Jvm.MethodName)) ∈ lw_all := lw_g (lw_at lw_m13 79 rfl) rfl
theorem q3079 : (Jvm.Cond.codeWith ({ cls := "NoteImporterLaw", name := "marginRow", desc := "(LNoteImporter;II[J)I" } : Jvm.MethodName) method_29_code (5 : Nat) (Option.some Jvm.ClassFile.FieldType.int) [((0 : Nat), (10 : Nat), (13 : Nat), (31 : Nat))]) ∈ lw_all := lw_g (lw_at lw_m13 80 rfl) rfl
theorem q3080 : (Jvm.Cond.methodLink "NoteImporterLaw" (100 : Nat) ({ cls := "NoteImporter", name := "marginRow", desc := "(II)I" } : Jvm.MethodName)) ∈ lw_all := lw_g (lw_at lw_m13 81 rfl) rfl
theorem q3084 : (Jvm.Cond.methodLink "NoteImporterLaw" (236 : Nat) ({ cls := "NoteImporterLaw", name := "write", desc := "(LNoteImporter;I[J)I" } : Jvm.MethodName)) ∈ lw_all := lw_g (lw_at lw_m13 85 rfl) rfl
theorem q3085 : (Jvm.Cond.static ({ cls := "NoteImporterLaw", name := "write", desc := "(LNoteImporter;I[J)I" } : Jvm.MethodName)) ∈ lw_all := lw_g (lw_at lw_m13 86 rfl) rfl
theorem q3086 : (Jvm.Cond.codeWith ({ cls := "NoteImporterLaw", name := "write", desc := "(LNoteImporter;I[J)I" } : Jvm.MethodName) method_30_code (4 : Nat) (Option.some Jvm.ClassFile.FieldType.int) [((0 : Nat), (9 : Nat), (12 : Nat), (31 : Nat))]) ∈ lw_all := lw_g (lw_at lw_m13 87 rfl) rfl
theorem q3087 : (Jvm.Cond.methodLink "NoteImporterLaw" (103 : Nat) ({ cls := "NoteImporter", name := "write", desc := "(I)I" } : Jvm.MethodName)) ∈ lw_all := lw_g (lw_at lw_m13 88 rfl) rfl
theorem q3093 : (Jvm.Cond.methodLink "NoteImporterLaw" (239 : Nat) ({ cls := "NoteImporterLaw", name := "outputByte", desc := "(LNoteImporter;I[J)I" } : Jvm.MethodName)) ∈ lw_all := lw_g (lw_at lw_m13 94 rfl) rfl
theorem q3094 : (Jvm.Cond.static ({ cls := "NoteImporterLaw", name := "outputByte", desc := "(LNoteImporter;I[J)I" } : Jvm.MethodName)) ∈ lw_all := lw_g (lw_at lw_m13 95 rfl) rfl
theorem q3095 : (Jvm.Cond.codeWith ({ cls := "NoteImporterLaw", name := "outputByte", desc := "(LNoteImporter;I[J)I" } : Jvm.MethodName) method_31_code (4 : Nat) (Option.some Jvm.ClassFile.FieldType.int) [((0 : Nat), (9 : Nat), (12 : Nat), (31 : Nat))]) ∈ lw_all := lw_g (lw_at lw_m13 96 rfl) rfl
theorem q3096 : (Jvm.Cond.methodLink "NoteImporterLaw" (106 : Nat) ({ cls := "NoteImporter", name := "outputByte", desc := "(I)I" } : Jvm.MethodName)) ∈ lw_all := lw_g (lw_at lw_m13 97 rfl) rfl
theorem q3110 : (Jvm.Cond.methodLink "NoteImporterLaw" (242 : Nat) ({ cls := "NoteImporterLaw", name := "save", desc := "(LNoteImporter;I)I" } : Jvm.MethodName)) ∈ lw_all := lw_g (lw_at lw_m13 111 rfl) rfl
theorem q3111 : (Jvm.Cond.static ({ cls := "NoteImporterLaw", name := "save", desc := "(LNoteImporter;I)I" } : Jvm.MethodName)) ∈ lw_all := lw_g (lw_at lw_m13 112 rfl) rfl
theorem q3112 : (Jvm.Cond.codeWith ({ cls := "NoteImporterLaw", name := "save", desc := "(LNoteImporter;I)I" } : Jvm.MethodName) method_32_code (3 : Nat) (Option.some Jvm.ClassFile.FieldType.int) [((0 : Nat), (5 : Nat), (8 : Nat), (18 : Nat))]) ∈ lw_all := lw_g (lw_at lw_m13 113 rfl) rfl
theorem q3113 : (Jvm.Cond.methodLink "NoteImporterLaw" (109 : Nat) ({ cls := "NoteImporter", name := "save", desc := "(I)V" } : Jvm.MethodName)) ∈ lw_all := lw_g (lw_at lw_m13 114 rfl) rfl
theorem q3117 : (Jvm.Cond.methodLink "NoteImporterLaw" (246 : Nat) ({ cls := "NoteImporterLaw", name := "restore", desc := "(LNoteImporter;I)I" } : Jvm.MethodName)) ∈ lw_all := lw_g (lw_at lw_m13 118 rfl) rfl
theorem q3118 : (Jvm.Cond.static ({ cls := "NoteImporterLaw", name := "restore", desc := "(LNoteImporter;I)I" } : Jvm.MethodName)) ∈ lw_all := lw_g (lw_at lw_m13 119 rfl) rfl
theorem q3119 : (Jvm.Cond.codeWith ({ cls := "NoteImporterLaw", name := "restore", desc := "(LNoteImporter;I)I" } : Jvm.MethodName) method_33_code (3 : Nat) (Option.some Jvm.ClassFile.FieldType.int) [((0 : Nat), (5 : Nat), (8 : Nat), (18 : Nat)), ((0 : Nat), (5 : Nat), (11 : Nat), (13 : Nat))]) ∈ lw_all := lw_g (lw_at lw_m13 120 rfl) rfl
theorem q3120 : (Jvm.Cond.methodLink "NoteImporterLaw" (113 : Nat) ({ cls := "NoteImporter", name := "restore", desc := "(I)V" } : Jvm.MethodName)) ∈ lw_all := lw_g (lw_at lw_m13 121 rfl) rfl
theorem q3124 : (Jvm.Cond.classLink "NoteImporterLaw" (117 : Nat) "NoteImporterModel") ∈ lw_all := lw_g (lw_at lw_m13 125 rfl) rfl
theorem q3126 : (Jvm.Cond.methodLink "NoteImporterLaw" (119 : Nat) ({ cls := "NoteImporterModel", name := "<init>", desc := "()V" } : Jvm.MethodName)) ∈ lw_all := lw_g (lw_at lw_m13 127 rfl) rfl
theorem q3268 : (Jvm.Cond.methodLink "NoteImporterLaw" (126 : Nat) ({ cls := "NoteImporterModel", name := "thrown", desc := "()I" } : Jvm.MethodName)) ∈ lw_all := lw_g (lw_at lw_m14 29 rfl) rfl
theorem q3272 : (Jvm.Cond.methodLink "NoteImporterLaw" (125 : Nat) ({ cls := "NoteImporterModel", name := "appendText", desc := "(I)I" } : Jvm.MethodName)) ∈ lw_all := lw_g (lw_at lw_m14 33 rfl) rfl
theorem q3280 : (Jvm.Cond.methodLink "NoteImporterLaw" (131 : Nat) ({ cls := "NoteImporterModel", name := "truncateText", desc := "(I)I" } : Jvm.MethodName)) ∈ lw_all := lw_g (lw_at lw_m14 41 rfl) rfl
theorem q3287 : (Jvm.Cond.methodLink "NoteImporterLaw" (146 : Nat) ({ cls := "NoteImporterModel", name := "count", desc := "(I)I" } : Jvm.MethodName)) ∈ lw_all := lw_g (lw_at lw_m14 48 rfl) rfl
theorem q3383 : (Jvm.Cond.methodLink "NoteImporterLaw" (150 : Nat) ({ cls := "NoteImporterModel", name := "addEdition", desc := "(II)I" } : Jvm.MethodName)) ∈ lw_all := lw_g (lw_at lw_m14 144 rfl) rfl
theorem q3414 : (Jvm.Cond.methodLink "NoteImporterLaw" (154 : Nat) ({ cls := "NoteImporterModel", name := "setLayout", desc := "(III)I" } : Jvm.MethodName)) ∈ lw_all := lw_g (lw_at lw_m14 175 rfl) rfl
theorem q3441 : (Jvm.Cond.methodLink "NoteImporterLaw" (157 : Nat) ({ cls := "NoteImporterModel", name := "edition", desc := "(II)I" } : Jvm.MethodName)) ∈ lw_all := lw_g (lw_at lw_m14 202 rfl) rfl
theorem q3445 : (Jvm.Cond.methodLink "NoteImporterLaw" (160 : Nat) ({ cls := "NoteImporterModel", name := "word", desc := "(III)I" } : Jvm.MethodName)) ∈ lw_all := lw_g (lw_at lw_m14 206 rfl) rfl
theorem q3453 : (Jvm.Cond.methodLink "NoteImporterLaw" (163 : Nat) ({ cls := "NoteImporterModel", name := "letter", desc := "(III)I" } : Jvm.MethodName)) ∈ lw_all := lw_g (lw_at lw_m14 214 rfl) rfl
theorem q3460 : (Jvm.Cond.methodLink "NoteImporterLaw" (166 : Nat) ({ cls := "NoteImporterModel", name := "insertWord", desc := "(II)I" } : Jvm.MethodName)) ∈ lw_all := lw_g (lw_at lw_m14 221 rfl) rfl
theorem q3472 : (Jvm.Cond.methodLink "NoteImporterLaw" (169 : Nat) ({ cls := "NoteImporterModel", name := "deleteWord", desc := "(II)I" } : Jvm.MethodName)) ∈ lw_all := lw_g (lw_at lw_m14 233 rfl) rfl
theorem q3480 : (Jvm.Cond.methodLink "NoteImporterLaw" (173 : Nat) ({ cls := "NoteImporterModel", name := "setParagraph", desc := "(IIZ)Z" } : Jvm.MethodName)) ∈ lw_all := lw_g (lw_at lw_m15 1 rfl) rfl
theorem q3484 : (Jvm.Cond.methodLink "NoteImporterLaw" (176 : Nat) ({ cls := "NoteImporterModel", name := "setTarget", desc := "(I)I" } : Jvm.MethodName)) ∈ lw_all := lw_g (lw_at lw_m15 5 rfl) rfl
theorem q3488 : (Jvm.Cond.methodLink "NoteImporterLaw" (180 : Nat) ({ cls := "NoteImporterModel", name := "addReader", desc := "()I" } : Jvm.MethodName)) ∈ lw_all := lw_g (lw_at lw_m15 9 rfl) rfl
theorem q3504 : (Jvm.Cond.methodLink "NoteImporterLaw" (184 : Nat) ({ cls := "NoteImporterModel", name := "addNote", desc := "(IIIII)I" } : Jvm.MethodName)) ∈ lw_all := lw_g (lw_at lw_m15 25 rfl) rfl
theorem q3520 : (Jvm.Cond.methodLink "NoteImporterLaw" (187 : Nat) ({ cls := "NoteImporterModel", name := "note", desc := "(II)I" } : Jvm.MethodName)) ∈ lw_all := lw_g (lw_at lw_m15 41 rfl) rfl
theorem q3528 : (Jvm.Cond.methodLink "NoteImporterLaw" (190 : Nat) ({ cls := "NoteImporterModel", name := "removeNote", desc := "()I" } : Jvm.MethodName)) ∈ lw_all := lw_g (lw_at lw_m15 49 rfl) rfl
theorem q3532 : (Jvm.Cond.methodLink "NoteImporterLaw" (193 : Nat) ({ cls := "NoteImporterModel", name := "partner", desc := "(II)I" } : Jvm.MethodName)) ∈ lw_all := lw_g (lw_at lw_m15 53 rfl) rfl
theorem q3536 : (Jvm.Cond.methodLink "NoteImporterLaw" (196 : Nat) ({ cls := "NoteImporterModel", name := "partners", desc := "(I)I" } : Jvm.MethodName)) ∈ lw_all := lw_g (lw_at lw_m15 57 rfl) rfl
theorem q3540 : (Jvm.Cond.methodLink "NoteImporterLaw" (199 : Nat) ({ cls := "NoteImporterModel", name := "anchor", desc := "(II)I" } : Jvm.MethodName)) ∈ lw_all := lw_g (lw_at lw_m15 61 rfl) rfl
theorem q3544 : (Jvm.Cond.methodLink "NoteImporterLaw" (202 : Nat) ({ cls := "NoteImporterModel", name := "anchors", desc := "(I)I" } : Jvm.MethodName)) ∈ lw_all := lw_g (lw_at lw_m15 65 rfl) rfl
theorem q3548 : (Jvm.Cond.methodLink "NoteImporterLaw" (205 : Nat) ({ cls := "NoteImporterModel", name := "setThreshold", desc := "(I)I" } : Jvm.MethodName)) ∈ lw_all := lw_g (lw_at lw_m15 69 rfl) rfl
theorem q3552 : (Jvm.Cond.methodLink "NoteImporterLaw" (208 : Nat) ({ cls := "NoteImporterModel", name := "areAlike", desc := "(II)Z" } : Jvm.MethodName)) ∈ lw_all := lw_g (lw_at lw_m15 73 rfl) rfl
theorem q3556 : (Jvm.Cond.methodLink "NoteImporterLaw" (211 : Nat) ({ cls := "NoteImporterModel", name := "groupOf", desc := "(I)I" } : Jvm.MethodName)) ∈ lw_all := lw_g (lw_at lw_m15 77 rfl) rfl
theorem q3560 : (Jvm.Cond.methodLink "NoteImporterLaw" (214 : Nat) ({ cls := "NoteImporterModel", name := "group", desc := "(II)I" } : Jvm.MethodName)) ∈ lw_all := lw_g (lw_at lw_m15 81 rfl) rfl
theorem q3568 : (Jvm.Cond.methodLink "NoteImporterLaw" (218 : Nat) ({ cls := "NoteImporterModel", name := "strongestGroup", desc := "()I" } : Jvm.MethodName)) ∈ lw_all := lw_g (lw_at lw_m15 89 rfl) rfl
theorem q3575 : (Jvm.Cond.methodLink "NoteImporterLaw" (221 : Nat) ({ cls := "NoteImporterModel", name := "heat", desc := "(I)I" } : Jvm.MethodName)) ∈ lw_all := lw_g (lw_at lw_m15 96 rfl) rfl
theorem q3587 : (Jvm.Cond.methodLink "NoteImporterLaw" (225 : Nat) ({ cls := "NoteImporterModel", name := "hottestPage", desc := "()I" } : Jvm.MethodName)) ∈ lw_all := lw_g (lw_at lw_m15 108 rfl) rfl
theorem q3595 : (Jvm.Cond.methodLink "NoteImporterLaw" (228 : Nat) ({ cls := "NoteImporterModel", name := "marginGroups", desc := "(I)I" } : Jvm.MethodName)) ∈ lw_all := lw_g (lw_at lw_m15 116 rfl) rfl
theorem q3619 : (Jvm.Cond.methodLink "NoteImporterLaw" (231 : Nat) ({ cls := "NoteImporterModel", name := "marginRow", desc := "(II)I" } : Jvm.MethodName)) ∈ lw_all := lw_g (lw_at lw_m15 140 rfl) rfl
theorem q3623 : (Jvm.Cond.methodLink "NoteImporterLaw" (235 : Nat) ({ cls := "NoteImporterModel", name := "overflows", desc := "()I" } : Jvm.MethodName)) ∈ lw_all := lw_g (lw_at lw_m15 144 rfl) rfl
theorem q3627 : (Jvm.Cond.methodLink "NoteImporterLaw" (238 : Nat) ({ cls := "NoteImporterModel", name := "write", desc := "(I)I" } : Jvm.MethodName)) ∈ lw_all := lw_g (lw_at lw_m15 148 rfl) rfl
theorem q3653 : (Jvm.Cond.methodLink "NoteImporterLaw" (241 : Nat) ({ cls := "NoteImporterModel", name := "outputByte", desc := "(I)I" } : Jvm.MethodName)) ∈ lw_all := lw_g (lw_at lw_m15 174 rfl) rfl
theorem q3657 : (Jvm.Cond.methodLink "NoteImporterLaw" (135 : Nat) ({ cls := "NoteImporterModel", name := "importText", desc := "()I" } : Jvm.MethodName)) ∈ lw_all := lw_g (lw_at lw_m15 178 rfl) rfl
theorem q3753 : (Jvm.Cond.methodLink "NoteImporterLaw" (139 : Nat) ({ cls := "NoteImporterModel", name := "errorCode", desc := "()I" } : Jvm.MethodName)) ∈ lw_all := lw_g (lw_at lw_m16 34 rfl) rfl
theorem q3757 : (Jvm.Cond.methodLink "NoteImporterLaw" (143 : Nat) ({ cls := "NoteImporterModel", name := "errorPosition", desc := "()I" } : Jvm.MethodName)) ∈ lw_all := lw_g (lw_at lw_m16 38 rfl) rfl
theorem q3761 : (Jvm.Cond.methodLink "NoteImporterLaw" (245 : Nat) ({ cls := "NoteImporterModel", name := "save", desc := "(I)V" } : Jvm.MethodName)) ∈ lw_all := lw_g (lw_at lw_m16 42 rfl) rfl
theorem q3765 : (Jvm.Cond.methodLink "NoteImporterLaw" (248 : Nat) ({ cls := "NoteImporterModel", name := "restore", desc := "(I)V" } : Jvm.MethodName)) ∈ lw_all := lw_g (lw_at lw_m16 46 rfl) rfl

/-! the law's own entry -/
set_option maxRecDepth 100000
abbrev cL_law : ByteArray := code
def dkwL_law_90 : List UInt8 := [182, 0, 126, 21, 5, 159, 0, 5, 3, 172, 167, 0, 3, 132, 4, 6, 167, 247, 76, 4, 172]
abbrev dktL_law_90 : List UInt8 := dkwL_law_90 ++ []
def dkwL_law_89 : List UInt8 := [43, 42, 21, 4, 4, 96, 46, 184, 0, 246, 54, 5, 44, 42, 21, 4, 4, 96, 46, 182, 0, 248, 44]
abbrev dktL_law_89 : List UInt8 := dkwL_law_89 ++ dktL_law_90
def dkwL_law_88 : List UInt8 := [44, 42, 21, 4, 4, 96, 46, 182, 0, 245, 44, 182, 0, 126, 21, 5, 159, 0, 5, 3, 172, 167, 0, 39]
abbrev dktL_law_88 : List UInt8 := dkwL_law_88 ++ dktL_law_89
def dkwL_law_87 : List UInt8 := [21, 6, 133, 148, 153, 0, 5, 3, 172, 167, 0, 75, 43, 42, 21, 4, 4, 96, 46, 184, 0, 242, 54, 5]
abbrev dktL_law_87 : List UInt8 := dkwL_law_87 ++ dktL_law_88
def dkwL_law_86 : List UInt8 := [182, 0, 241, 54, 6, 44, 182, 0, 126, 21, 5, 159, 0, 5, 3, 172, 21, 5, 154, 0, 15, 45, 3, 47]
abbrev dktL_law_86 : List UInt8 := dkwL_law_86 ++ dktL_law_87
def dkwL_law_85 : List UInt8 := [167, 0, 131, 43, 42, 21, 4, 4, 96, 46, 45, 184, 0, 239, 54, 5, 44, 42, 21, 4, 4, 96, 46]
abbrev dktL_law_85 : List UInt8 := dkwL_law_85 ++ dktL_law_86
def dkwL_law_84 : List UInt8 := [159, 0, 5, 3, 172, 21, 5, 154, 0, 15, 45, 3, 47, 21, 6, 133, 148, 153, 0, 5, 3, 172]
abbrev dktL_law_84 : List UInt8 := dkwL_law_84 ++ dktL_law_85
def dkwL_law_83 : List UInt8 := [184, 0, 236, 54, 5, 44, 42, 21, 4, 4, 96, 46, 182, 0, 238, 54, 6, 44, 182, 0, 126, 21, 5]
abbrev dktL_law_83 : List UInt8 := dkwL_law_83 ++ dktL_law_84
def dkwL_law_82 : List UInt8 := [167, 0, 200, 43, 182, 0, 232, 44, 182, 0, 235, 159, 0, 189, 3, 172, 43, 42, 21, 4, 4, 96, 46, 45]
abbrev dktL_law_82 : List UInt8 := dkwL_law_82 ++ dktL_law_83
def dkwL_law_81 : List UInt8 := [159, 0, 5, 3, 172, 21, 5, 154, 0, 15, 45, 3, 47, 21, 6, 133, 148, 153, 0, 5, 3, 172]
abbrev dktL_law_81 : List UInt8 := dkwL_law_81 ++ dktL_law_82
def dkwL_law_80 : List UInt8 := [21, 4, 4, 96, 46, 42, 21, 4, 5, 96, 46, 182, 0, 231, 54, 6, 44, 182, 0, 126, 21, 5]
abbrev dktL_law_80 : List UInt8 := dkwL_law_80 ++ dktL_law_81
def dkwL_law_79 : List UInt8 := [167, 1, 12, 43, 42, 21, 4, 4, 96, 46, 42, 21, 4, 5, 96, 46, 45, 184, 0, 229, 54, 5, 44, 42]
abbrev dktL_law_79 : List UInt8 := dkwL_law_79 ++ dktL_law_80
def dkwL_law_78 : List UInt8 := [159, 0, 5, 3, 172, 21, 5, 154, 0, 15, 45, 3, 47, 21, 6, 133, 148, 153, 0, 5, 3, 172]
abbrev dktL_law_78 : List UInt8 := dkwL_law_78 ++ dktL_law_79
def dkwL_law_77 : List UInt8 := [184, 0, 226, 54, 5, 44, 42, 21, 4, 4, 96, 46, 182, 0, 228, 54, 6, 44, 182, 0, 126, 21, 5]
abbrev dktL_law_77 : List UInt8 := dkwL_law_77 ++ dktL_law_78
def dkwL_law_76 : List UInt8 := [167, 1, 81, 43, 182, 0, 222, 44, 182, 0, 225, 159, 1, 70, 3, 172, 43, 42, 21, 4, 4, 96, 46, 45]
abbrev dktL_law_76 : List UInt8 := dkwL_law_76 ++ dktL_law_77
def dkwL_law_75 : List UInt8 := [159, 0, 5, 3, 172, 21, 5, 154, 0, 15, 45, 3, 47, 21, 6, 133, 148, 153, 0, 5, 3, 172]
abbrev dktL_law_75 : List UInt8 := dkwL_law_75 ++ dktL_law_76
def dkwL_law_74 : List UInt8 := [184, 0, 219, 54, 5, 44, 42, 21, 4, 4, 96, 46, 182, 0, 221, 54, 6, 44, 182, 0, 126, 21, 5]
abbrev dktL_law_74 : List UInt8 := dkwL_law_74 ++ dktL_law_75
def dkwL_law_73 : List UInt8 := [167, 1, 150, 43, 182, 0, 215, 44, 182, 0, 218, 159, 1, 139, 3, 172, 43, 42, 21, 4, 4, 96, 46, 45]
abbrev dktL_law_73 : List UInt8 := dkwL_law_73 ++ dktL_law_74
def dkwL_law_72 : List UInt8 := [159, 0, 5, 3, 172, 21, 5, 154, 0, 15, 45, 3, 47, 21, 6, 133, 148, 153, 0, 5, 3, 172]
abbrev dktL_law_72 : List UInt8 := dkwL_law_72 ++ dktL_law_73
def dkwL_law_71 : List UInt8 := [21, 4, 4, 96, 46, 42, 21, 4, 5, 96, 46, 182, 0, 214, 54, 6, 44, 182, 0, 126, 21, 5]
abbrev dktL_law_71 : List UInt8 := dkwL_law_71 ++ dktL_law_72
def dkwL_law_70 : List UInt8 := [167, 1, 218, 43, 42, 21, 4, 4, 96, 46, 42, 21, 4, 5, 96, 46, 45, 184, 0, 212, 54, 5, 44, 42]
abbrev dktL_law_70 : List UInt8 := dkwL_law_70 ++ dktL_law_71
def dkwL_law_69 : List UInt8 := [159, 0, 5, 3, 172, 21, 5, 154, 0, 15, 45, 3, 47, 21, 6, 133, 148, 153, 0, 5, 3, 172]
abbrev dktL_law_69 : List UInt8 := dkwL_law_69 ++ dktL_law_70
def dkwL_law_68 : List UInt8 := [45, 184, 0, 209, 54, 5, 44, 42, 21, 4, 4, 96, 46, 182, 0, 211, 54, 6, 44, 182, 0, 126, 21, 5]
abbrev dktL_law_68 : List UInt8 := dkwL_law_68 ++ dktL_law_69
def dkwL_law_67 : List UInt8 := [153, 0, 7, 10, 167, 0, 4, 9, 148, 153, 0, 5, 3, 172, 167, 2, 18, 43, 42, 21, 4, 4, 96, 46]
abbrev dktL_law_67 : List UInt8 := dkwL_law_67 ++ dktL_law_68
def dkwL_law_66 : List UInt8 := [54, 6, 44, 182, 0, 126, 21, 5, 159, 0, 5, 3, 172, 21, 5, 154, 0, 22, 45, 3, 47, 21, 6]
abbrev dktL_law_66 : List UInt8 := dkwL_law_66 ++ dktL_law_67
def dkwL_law_65 : List UInt8 := [46, 45, 184, 0, 206, 54, 5, 44, 42, 21, 4, 4, 96, 46, 42, 21, 4, 5, 96, 46, 182, 0, 208]
abbrev dktL_law_65 : List UInt8 := dkwL_law_65 ++ dktL_law_66
def dkwL_law_64 : List UInt8 := [21, 6, 133, 148, 153, 0, 5, 3, 172, 167, 2, 93, 43, 42, 21, 4, 4, 96, 46, 42, 21, 4, 5, 96]
abbrev dktL_law_64 : List UInt8 := dkwL_law_64 ++ dktL_law_65
def dkwL_law_63 : List UInt8 := [182, 0, 205, 54, 6, 44, 182, 0, 126, 21, 5, 159, 0, 5, 3, 172, 21, 5, 154, 0, 15, 45, 3, 47]
abbrev dktL_law_63 : List UInt8 := dkwL_law_63 ++ dktL_law_64
def dkwL_law_62 : List UInt8 := [167, 2, 149, 43, 42, 21, 4, 4, 96, 46, 45, 184, 0, 203, 54, 5, 44, 42, 21, 4, 4, 96, 46]
abbrev dktL_law_62 : List UInt8 := dkwL_law_62 ++ dktL_law_63
def dkwL_law_61 : List UInt8 := [159, 0, 5, 3, 172, 21, 5, 154, 0, 15, 45, 3, 47, 21, 6, 133, 148, 153, 0, 5, 3, 172]
abbrev dktL_law_61 : List UInt8 := dkwL_law_61 ++ dktL_law_62
def dkwL_law_60 : List UInt8 := [184, 0, 200, 54, 5, 44, 42, 21, 4, 4, 96, 46, 182, 0, 202, 54, 6, 44, 182, 0, 126, 21, 5]
abbrev dktL_law_60 : List UInt8 := dkwL_law_60 ++ dktL_law_61
def dkwL_law_59 : List UInt8 := [3, 47, 21, 6, 133, 148, 153, 0, 5, 3, 172, 167, 2, 205, 43, 42, 21, 4, 4, 96, 46, 45]
abbrev dktL_law_59 : List UInt8 := dkwL_law_59 ++ dktL_law_60
def dkwL_law_58 : List UInt8 := [96, 46, 182, 0, 199, 54, 6, 44, 182, 0, 126, 21, 5, 159, 0, 5, 3, 172, 21, 5, 154, 0, 15, 45]
abbrev dktL_law_58 : List UInt8 := dkwL_law_58 ++ dktL_law_59
def dkwL_law_57 : List UInt8 := [46, 42, 21, 4, 5, 96, 46, 45, 184, 0, 197, 54, 5, 44, 42, 21, 4, 4, 96, 46, 42, 21, 4, 5]
abbrev dktL_law_57 : List UInt8 := dkwL_law_57 ++ dktL_law_58
def dkwL_law_56 : List UInt8 := [154, 0, 15, 45, 3, 47, 21, 6, 133, 148, 153, 0, 5, 3, 172, 167, 3, 17, 43, 42, 21, 4, 4, 96]
abbrev dktL_law_56 : List UInt8 := dkwL_law_56 ++ dktL_law_57
def dkwL_law_55 : List UInt8 := [21, 4, 4, 96, 46, 182, 0, 196, 54, 6, 44, 182, 0, 126, 21, 5, 159, 0, 5, 3, 172, 21, 5]
abbrev dktL_law_55 : List UInt8 := dkwL_law_55 ++ dktL_law_56
def dkwL_law_54 : List UInt8 := [148, 153, 0, 5, 3, 172, 167, 3, 73, 43, 42, 21, 4, 4, 96, 46, 45, 184, 0, 194, 54, 5, 44, 42]
abbrev dktL_law_54 : List UInt8 := dkwL_law_54 ++ dktL_law_55
def dkwL_law_53 : List UInt8 := [54, 6, 44, 182, 0, 126, 21, 5, 159, 0, 5, 3, 172, 21, 5, 154, 0, 15, 45, 3, 47, 21, 6, 133]
abbrev dktL_law_53 : List UInt8 := dkwL_law_53 ++ dktL_law_54
def dkwL_law_52 : List UInt8 := [46, 45, 184, 0, 191, 54, 5, 44, 42, 21, 4, 4, 96, 46, 42, 21, 4, 5, 96, 46, 182, 0, 193]
abbrev dktL_law_52 : List UInt8 := dkwL_law_52 ++ dktL_law_53
def dkwL_law_51 : List UInt8 := [21, 6, 133, 148, 153, 0, 5, 3, 172, 167, 3, 141, 43, 42, 21, 4, 4, 96, 46, 42, 21, 4, 5, 96]
abbrev dktL_law_51 : List UInt8 := dkwL_law_51 ++ dktL_law_52
def dkwL_law_50 : List UInt8 := [182, 0, 190, 54, 6, 44, 182, 0, 126, 21, 5, 159, 0, 5, 3, 172, 21, 5, 154, 0, 15, 45, 3, 47]
abbrev dktL_law_50 : List UInt8 := dkwL_law_50 ++ dktL_law_51
def dkwL_law_49 : List UInt8 := [3, 47, 21, 6, 133, 148, 153, 0, 5, 3, 172, 167, 3, 185, 43, 45, 184, 0, 188, 54, 5, 44]
abbrev dktL_law_49 : List UInt8 := dkwL_law_49 ++ dktL_law_50
def dkwL_law_48 : List UInt8 := [96, 46, 182, 0, 187, 54, 6, 44, 182, 0, 126, 21, 5, 159, 0, 5, 3, 172, 21, 5, 154, 0, 15, 45]
abbrev dktL_law_48 : List UInt8 := dkwL_law_48 ++ dktL_law_49
def dkwL_law_47 : List UInt8 := [46, 42, 21, 4, 5, 96, 46, 45, 184, 0, 185, 54, 5, 44, 42, 21, 4, 4, 96, 46, 42, 21, 4, 5]
abbrev dktL_law_47 : List UInt8 := dkwL_law_47 ++ dktL_law_48
def dkwL_law_46 : List UInt8 := [154, 0, 15, 45, 3, 47, 21, 6, 133, 148, 153, 0, 5, 3, 172, 167, 3, 253, 43, 42, 21, 4, 4, 96]
abbrev dktL_law_46 : List UInt8 := dkwL_law_46 ++ dktL_law_47
def dkwL_law_45 : List UInt8 := [42, 21, 4, 8, 96, 46, 182, 0, 184, 54, 6, 44, 182, 0, 126, 21, 5, 159, 0, 5, 3, 172, 21, 5]
abbrev dktL_law_45 : List UInt8 := dkwL_law_45 ++ dktL_law_46
def dkwL_law_44 : List UInt8 := [42, 21, 4, 4, 96, 46, 42, 21, 4, 5, 96, 46, 42, 21, 4, 6, 96, 46, 42, 21, 4, 7, 96, 46]
abbrev dktL_law_44 : List UInt8 := dkwL_law_44 ++ dktL_law_45
def dkwL_law_43 : List UInt8 := [21, 4, 6, 96, 46, 42, 21, 4, 7, 96, 46, 42, 21, 4, 8, 96, 46, 45, 184, 0, 181, 54, 5, 44]
abbrev dktL_law_43 : List UInt8 := dkwL_law_43 ++ dktL_law_44
def dkwL_law_42 : List UInt8 := [148, 153, 0, 5, 3, 172, 167, 4, 101, 43, 42, 21, 4, 4, 96, 46, 42, 21, 4, 5, 96, 46, 42]
abbrev dktL_law_42 : List UInt8 := dkwL_law_42 ++ dktL_law_43
def dkwL_law_41 : List UInt8 := [54, 6, 44, 182, 0, 126, 21, 5, 159, 0, 5, 3, 172, 21, 5, 154, 0, 15, 45, 3, 47, 21, 6, 133]
abbrev dktL_law_41 : List UInt8 := dkwL_law_41 ++ dktL_law_42
def dkwL_law_40 : List UInt8 := [21, 6, 133, 148, 153, 0, 5, 3, 172, 167, 4, 145, 43, 45, 184, 0, 177, 54, 5, 44, 182, 0, 180]
abbrev dktL_law_40 : List UInt8 := dkwL_law_40 ++ dktL_law_41
def dkwL_law_39 : List UInt8 := [182, 0, 176, 54, 6, 44, 182, 0, 126, 21, 5, 159, 0, 5, 3, 172, 21, 5, 154, 0, 15, 45, 3, 47]
abbrev dktL_law_39 : List UInt8 := dkwL_law_39 ++ dktL_law_40
def dkwL_law_38 : List UInt8 := [167, 4, 201, 43, 42, 21, 4, 4, 96, 46, 45, 184, 0, 174, 54, 5, 44, 42, 21, 4, 4, 96, 46]
abbrev dktL_law_38 : List UInt8 := dkwL_law_38 ++ dktL_law_39
def dkwL_law_37 : List UInt8 := [154, 0, 22, 45, 3, 47, 21, 6, 153, 0, 7, 10, 167, 0, 4, 9, 148, 153, 0, 5, 3, 172]
abbrev dktL_law_37 : List UInt8 := dkwL_law_37 ++ dktL_law_38
def dkwL_law_36 : List UInt8 := [167, 0, 4, 3, 182, 0, 173, 54, 6, 44, 182, 0, 126, 21, 5, 159, 0, 5, 3, 172, 21, 5]
abbrev dktL_law_36 : List UInt8 := dkwL_law_36 ++ dktL_law_37
def dkwL_law_35 : List UInt8 := [42, 21, 4, 4, 96, 46, 42, 21, 4, 5, 96, 46, 42, 21, 4, 6, 96, 46, 153, 0, 7, 4]
abbrev dktL_law_35 : List UInt8 := dkwL_law_35 ++ dktL_law_36
def dkwL_law_34 : List UInt8 := [5, 96, 46, 42, 21, 4, 6, 96, 46, 153, 0, 7, 4, 167, 0, 4, 3, 45, 184, 0, 170, 54, 5, 44]
abbrev dktL_law_34 : List UInt8 := dkwL_law_34 ++ dktL_law_35
def dkwL_law_33 : List UInt8 := [3, 47, 21, 6, 133, 148, 153, 0, 5, 3, 172, 167, 5, 48, 43, 42, 21, 4, 4, 96, 46, 42, 21, 4]
abbrev dktL_law_33 : List UInt8 := dkwL_law_33 ++ dktL_law_34
def dkwL_law_32 : List UInt8 := [96, 46, 182, 0, 169, 54, 6, 44, 182, 0, 126, 21, 5, 159, 0, 5, 3, 172, 21, 5, 154, 0, 15, 45]
abbrev dktL_law_32 : List UInt8 := dkwL_law_32 ++ dktL_law_33
def dkwL_law_31 : List UInt8 := [46, 42, 21, 4, 5, 96, 46, 45, 184, 0, 167, 54, 5, 44, 42, 21, 4, 4, 96, 46, 42, 21, 4, 5]
abbrev dktL_law_31 : List UInt8 := dkwL_law_31 ++ dktL_law_32
def dkwL_law_30 : List UInt8 := [154, 0, 15, 45, 3, 47, 21, 6, 133, 148, 153, 0, 5, 3, 172, 167, 5, 116, 43, 42, 21, 4, 4, 96]
abbrev dktL_law_30 : List UInt8 := dkwL_law_30 ++ dktL_law_31
def dkwL_law_29 : List UInt8 := [21, 4, 5, 96, 46, 182, 0, 166, 54, 6, 44, 182, 0, 126, 21, 5, 159, 0, 5, 3, 172, 21, 5]
abbrev dktL_law_29 : List UInt8 := dkwL_law_29 ++ dktL_law_30
def dkwL_law_28 : List UInt8 := [4, 96, 46, 42, 21, 4, 5, 96, 46, 45, 184, 0, 164, 54, 5, 44, 42, 21, 4, 4, 96, 46, 42]
abbrev dktL_law_28 : List UInt8 := dkwL_law_28 ++ dktL_law_29
def dkwL_law_27 : List UInt8 := [21, 5, 154, 0, 15, 45, 3, 47, 21, 6, 133, 148, 153, 0, 5, 3, 172, 167, 5, 184, 43, 42, 21, 4]
abbrev dktL_law_27 : List UInt8 := dkwL_law_27 ++ dktL_law_28
def dkwL_law_26 : List UInt8 := [96, 46, 42, 21, 4, 6, 96, 46, 182, 0, 163, 54, 6, 44, 182, 0, 126, 21, 5, 159, 0, 5, 3, 172]
abbrev dktL_law_26 : List UInt8 := dkwL_law_26 ++ dktL_law_27
def dkwL_law_25 : List UInt8 := [46, 42, 21, 4, 6, 96, 46, 45, 184, 0, 161, 54, 5, 44, 42, 21, 4, 4, 96, 46, 42, 21, 4, 5]
abbrev dktL_law_25 : List UInt8 := dkwL_law_25 ++ dktL_law_26
def dkwL_law_24 : List UInt8 := [21, 6, 133, 148, 153, 0, 5, 3, 172, 167, 6, 8, 43, 42, 21, 4, 4, 96, 46, 42, 21, 4, 5, 96]
abbrev dktL_law_24 : List UInt8 := dkwL_law_24 ++ dktL_law_25
def dkwL_law_23 : List UInt8 := [182, 0, 160, 54, 6, 44, 182, 0, 126, 21, 5, 159, 0, 5, 3, 172, 21, 5, 154, 0, 15, 45, 3, 47]
abbrev dktL_law_23 : List UInt8 := dkwL_law_23 ++ dktL_law_24
def dkwL_law_22 : List UInt8 := [184, 0, 158, 54, 5, 44, 42, 21, 4, 4, 96, 46, 42, 21, 4, 5, 96, 46, 42, 21, 4, 6, 96, 46]
abbrev dktL_law_22 : List UInt8 := dkwL_law_22 ++ dktL_law_23
def dkwL_law_21 : List UInt8 := [167, 6, 88, 43, 42, 21, 4, 4, 96, 46, 42, 21, 4, 5, 96, 46, 42, 21, 4, 6, 96, 46, 45]
abbrev dktL_law_21 : List UInt8 := dkwL_law_21 ++ dktL_law_22
def dkwL_law_20 : List UInt8 := [159, 0, 5, 3, 172, 21, 5, 154, 0, 15, 45, 3, 47, 21, 6, 133, 148, 153, 0, 5, 3, 172]
abbrev dktL_law_20 : List UInt8 := dkwL_law_20 ++ dktL_law_21
def dkwL_law_19 : List UInt8 := [21, 4, 4, 96, 46, 42, 21, 4, 5, 96, 46, 182, 0, 157, 54, 6, 44, 182, 0, 126, 21, 5]
abbrev dktL_law_19 : List UInt8 := dkwL_law_19 ++ dktL_law_20
def dkwL_law_18 : List UInt8 := [167, 6, 156, 43, 42, 21, 4, 4, 96, 46, 42, 21, 4, 5, 96, 46, 45, 184, 0, 155, 54, 5, 44, 42]
abbrev dktL_law_18 : List UInt8 := dkwL_law_18 ++ dktL_law_19
def dkwL_law_17 : List UInt8 := [21, 5, 159, 0, 5, 3, 172, 21, 5, 154, 0, 15, 45, 3, 47, 21, 6, 133, 148, 153, 0, 5, 3, 172]
abbrev dktL_law_17 : List UInt8 := dkwL_law_17 ++ dktL_law_18
def dkwL_law_16 : List UInt8 := [96, 46, 42, 21, 4, 5, 96, 46, 42, 21, 4, 6, 96, 46, 182, 0, 154, 54, 6, 44, 182, 0, 126]
abbrev dktL_law_16 : List UInt8 := dkwL_law_16 ++ dktL_law_17
def dkwL_law_15 : List UInt8 := [46, 42, 21, 4, 5, 96, 46, 42, 21, 4, 6, 96, 46, 45, 184, 0, 151, 54, 5, 44, 42, 21, 4, 4]
abbrev dktL_law_15 : List UInt8 := dkwL_law_15 ++ dktL_law_16
def dkwL_law_14 : List UInt8 := [154, 0, 15, 45, 3, 47, 21, 6, 133, 148, 153, 0, 5, 3, 172, 167, 6, 236, 43, 42, 21, 4, 4, 96]
abbrev dktL_law_14 : List UInt8 := dkwL_law_14 ++ dktL_law_15
def dkwL_law_13 : List UInt8 := [42, 21, 4, 5, 96, 46, 182, 0, 150, 54, 6, 44, 182, 0, 126, 21, 5, 159, 0, 5, 3, 172, 21, 5]
abbrev dktL_law_13 : List UInt8 := dkwL_law_13 ++ dktL_law_14
def dkwL_law_12 : List UInt8 := [21, 4, 4, 96, 46, 42, 21, 4, 5, 96, 46, 45, 184, 0, 147, 54, 5, 44, 42, 21, 4, 4, 96, 46]
abbrev dktL_law_12 : List UInt8 := dkwL_law_12 ++ dktL_law_13
def dkwL_law_11 : List UInt8 := [172, 21, 5, 154, 0, 15, 45, 3, 47, 21, 6, 133, 148, 153, 0, 5, 3, 172, 167, 7, 48, 43, 42]
abbrev dktL_law_11 : List UInt8 := dkwL_law_11 ++ dktL_law_12
def dkwL_law_10 : List UInt8 := [54, 5, 44, 42, 21, 4, 4, 96, 46, 182, 0, 146, 54, 6, 44, 182, 0, 126, 21, 5, 159, 0, 5, 3]
abbrev dktL_law_10 : List UInt8 := dkwL_law_10 ++ dktL_law_11
def dkwL_law_9 : List UInt8 := [182, 0, 140, 44, 182, 0, 143, 159, 7, 106, 3, 172, 43, 42, 21, 4, 4, 96, 46, 45, 184, 0, 144]
abbrev dktL_law_9 : List UInt8 := dkwL_law_9 ++ dktL_law_10
def dkwL_law_8 : List UInt8 := [182, 0, 135, 159, 7, 132, 3, 172, 43, 182, 0, 136, 44, 182, 0, 139, 159, 7, 119, 3, 172, 43]
abbrev dktL_law_8 : List UInt8 := dkwL_law_8 ++ dktL_law_9
def dkwL_law_7 : List UInt8 := [154, 0, 15, 45, 3, 47, 21, 6, 133, 148, 153, 0, 5, 3, 172, 167, 7, 143, 43, 182, 0, 132, 44]
abbrev dktL_law_7 : List UInt8 := dkwL_law_7 ++ dktL_law_8
def dkwL_law_6 : List UInt8 := [21, 4, 4, 96, 46, 182, 0, 131, 54, 6, 44, 182, 0, 126, 21, 5, 159, 0, 5, 3, 172, 21, 5]
abbrev dktL_law_6 : List UInt8 := dkwL_law_6 ++ dktL_law_7
def dkwL_law_5 : List UInt8 := [148, 153, 0, 5, 3, 172, 167, 7, 199, 43, 42, 21, 4, 4, 96, 46, 45, 184, 0, 129, 54, 5, 44, 42]
abbrev dktL_law_5 : List UInt8 := dkwL_law_5 ++ dktL_law_6
def dkwL_law_4 : List UInt8 := [54, 6, 44, 182, 0, 126, 21, 5, 159, 0, 5, 3, 172, 21, 5, 154, 0, 15, 45, 3, 47, 21, 6, 133]
abbrev dktL_law_4 : List UInt8 := dkwL_law_4 ++ dktL_law_5
def dkwL_law_3 : List UInt8 := [43, 42, 21, 4, 4, 96, 46, 45, 184, 0, 120, 54, 5, 44, 42, 21, 4, 4, 96, 46, 182, 0, 125]
abbrev dktL_law_3 : List UInt8 := dkwL_law_3 ++ dktL_law_4
def dkwL_law_2 : List UInt8 := [170, 0, 0, 0, 0, 0, 8, 160, 0, 0, 0, 0, 0, 0, 0, 36, 0, 0, 0, 164, 0, 0, 0, 220, 0, 0, 1, 20, 0, 0, 1, 33, 0, 0, 1, 46, 0, 0, 1, 59, 0, 0, 1, 115, 0, 0, 1, 183, 0, 0, 2, 7, 0, 0, 2, 75, 0, 0, 2, 155, 0, 0, 2, 235, 0, 0, 3, 47, 0, 0, 3, 115, 0, 0, 3, 218, 0, 0, 4, 18, 0, 0, 4, 62, 0, 0, 4, 166, 0, 0, 4, 234, 0, 0, 5, 22, 0, 0, 5, 90, 0, 0, 5, 146, 0, 0, 5, 214, 0, 0, 6, 14, 0, 0, 6, 70, 0, 0, 6, 145, 0, 0, 6, 201, 0, 0, 7, 13, 0, 0, 7, 26, 0, 0, 7, 82, 0, 0, 7, 95, 0, 0, 7, 151, 0, 0, 7, 219, 0, 0, 7, 232, 0, 0, 8, 32, 0, 0, 8, 88, 0, 0, 8, 124]
abbrev dktL_law_2 : List UInt8 := dkwL_law_2 ++ dktL_law_3
def dkwL_law_1 : List UInt8 := [21, 4, 42, 190, 16, 6, 100, 163, 8, 176, 42, 21, 4, 46, 16, 63, 126]
abbrev dktL_law_1 : List UInt8 := dkwL_law_1 ++ dktL_law_2
def dkwL_law_0 : List UInt8 := [187, 0, 8, 89, 183, 0, 116, 76, 187, 0, 117, 89, 183, 0, 119, 77, 4, 188, 11, 78, 3, 54, 4]
abbrev dktL_law_0 : List UInt8 := dkwL_law_0 ++ dktL_law_1
theorem dksL_law_0 : cL_law.data.toList.drop 0 = dktL_law_0 := by decide +kernel
theorem dksL_law_1 : cL_law.data.toList.drop 23 = dktL_law_1 := dk_seg dksL_law_0 23 rfl rfl
theorem dksL_law_2 : cL_law.data.toList.drop 40 = dktL_law_2 := dk_seg dksL_law_1 17 rfl rfl
theorem dksL_law_3 : cL_law.data.toList.drop 204 = dktL_law_3 := dk_seg dksL_law_2 164 rfl rfl
theorem dksL_law_4 : cL_law.data.toList.drop 227 = dktL_law_4 := dk_seg dksL_law_3 23 rfl rfl
theorem dksL_law_5 : cL_law.data.toList.drop 251 = dktL_law_5 := dk_seg dksL_law_4 24 rfl rfl
theorem dksL_law_6 : cL_law.data.toList.drop 275 = dktL_law_6 := dk_seg dksL_law_5 24 rfl rfl
theorem dksL_law_7 : cL_law.data.toList.drop 298 = dktL_law_7 := dk_seg dksL_law_6 23 rfl rfl
theorem dksL_law_8 : cL_law.data.toList.drop 321 = dktL_law_8 := dk_seg dksL_law_7 23 rfl rfl
theorem dksL_law_9 : cL_law.data.toList.drop 343 = dktL_law_9 := dk_seg dksL_law_8 22 rfl rfl
theorem dksL_law_10 : cL_law.data.toList.drop 366 = dktL_law_10 := dk_seg dksL_law_9 23 rfl rfl
theorem dksL_law_11 : cL_law.data.toList.drop 390 = dktL_law_11 := dk_seg dksL_law_10 24 rfl rfl
theorem dksL_law_12 : cL_law.data.toList.drop 413 = dktL_law_12 := dk_seg dksL_law_11 23 rfl rfl
theorem dksL_law_13 : cL_law.data.toList.drop 437 = dktL_law_13 := dk_seg dksL_law_12 24 rfl rfl
theorem dksL_law_14 : cL_law.data.toList.drop 461 = dktL_law_14 := dk_seg dksL_law_13 24 rfl rfl
theorem dksL_law_15 : cL_law.data.toList.drop 485 = dktL_law_15 := dk_seg dksL_law_14 24 rfl rfl
theorem dksL_law_16 : cL_law.data.toList.drop 509 = dktL_law_16 := dk_seg dksL_law_15 24 rfl rfl
theorem dksL_law_17 : cL_law.data.toList.drop 532 = dktL_law_17 := dk_seg dksL_law_16 23 rfl rfl
theorem dksL_law_18 : cL_law.data.toList.drop 556 = dktL_law_18 := dk_seg dksL_law_17 24 rfl rfl
theorem dksL_law_19 : cL_law.data.toList.drop 580 = dktL_law_19 := dk_seg dksL_law_18 24 rfl rfl
theorem dksL_law_20 : cL_law.data.toList.drop 602 = dktL_law_20 := dk_seg dksL_law_19 22 rfl rfl
theorem dksL_law_21 : cL_law.data.toList.drop 624 = dktL_law_21 := dk_seg dksL_law_20 22 rfl rfl
theorem dksL_law_22 : cL_law.data.toList.drop 647 = dktL_law_22 := dk_seg dksL_law_21 23 rfl rfl
theorem dksL_law_23 : cL_law.data.toList.drop 671 = dktL_law_23 := dk_seg dksL_law_22 24 rfl rfl
theorem dksL_law_24 : cL_law.data.toList.drop 695 = dktL_law_24 := dk_seg dksL_law_23 24 rfl rfl
theorem dksL_law_25 : cL_law.data.toList.drop 719 = dktL_law_25 := dk_seg dksL_law_24 24 rfl rfl
theorem dksL_law_26 : cL_law.data.toList.drop 743 = dktL_law_26 := dk_seg dksL_law_25 24 rfl rfl
theorem dksL_law_27 : cL_law.data.toList.drop 767 = dktL_law_27 := dk_seg dksL_law_26 24 rfl rfl
theorem dksL_law_28 : cL_law.data.toList.drop 791 = dktL_law_28 := dk_seg dksL_law_27 24 rfl rfl
theorem dksL_law_29 : cL_law.data.toList.drop 814 = dktL_law_29 := dk_seg dksL_law_28 23 rfl rfl
theorem dksL_law_30 : cL_law.data.toList.drop 837 = dktL_law_30 := dk_seg dksL_law_29 23 rfl rfl
theorem dksL_law_31 : cL_law.data.toList.drop 861 = dktL_law_31 := dk_seg dksL_law_30 24 rfl rfl
theorem dksL_law_32 : cL_law.data.toList.drop 885 = dktL_law_32 := dk_seg dksL_law_31 24 rfl rfl
theorem dksL_law_33 : cL_law.data.toList.drop 909 = dktL_law_33 := dk_seg dksL_law_32 24 rfl rfl
theorem dksL_law_34 : cL_law.data.toList.drop 933 = dktL_law_34 := dk_seg dksL_law_33 24 rfl rfl
theorem dksL_law_35 : cL_law.data.toList.drop 957 = dktL_law_35 := dk_seg dksL_law_34 24 rfl rfl
theorem dksL_law_36 : cL_law.data.toList.drop 979 = dktL_law_36 := dk_seg dksL_law_35 22 rfl rfl
theorem dksL_law_37 : cL_law.data.toList.drop 1001 = dktL_law_37 := dk_seg dksL_law_36 22 rfl rfl
theorem dksL_law_38 : cL_law.data.toList.drop 1023 = dktL_law_38 := dk_seg dksL_law_37 22 rfl rfl
theorem dksL_law_39 : cL_law.data.toList.drop 1046 = dktL_law_39 := dk_seg dksL_law_38 23 rfl rfl
theorem dksL_law_40 : cL_law.data.toList.drop 1070 = dktL_law_40 := dk_seg dksL_law_39 24 rfl rfl
theorem dksL_law_41 : cL_law.data.toList.drop 1093 = dktL_law_41 := dk_seg dksL_law_40 23 rfl rfl
theorem dksL_law_42 : cL_law.data.toList.drop 1117 = dktL_law_42 := dk_seg dksL_law_41 24 rfl rfl
theorem dksL_law_43 : cL_law.data.toList.drop 1140 = dktL_law_43 := dk_seg dksL_law_42 23 rfl rfl
theorem dksL_law_44 : cL_law.data.toList.drop 1164 = dktL_law_44 := dk_seg dksL_law_43 24 rfl rfl
theorem dksL_law_45 : cL_law.data.toList.drop 1188 = dktL_law_45 := dk_seg dksL_law_44 24 rfl rfl
theorem dksL_law_46 : cL_law.data.toList.drop 1212 = dktL_law_46 := dk_seg dksL_law_45 24 rfl rfl
theorem dksL_law_47 : cL_law.data.toList.drop 1236 = dktL_law_47 := dk_seg dksL_law_46 24 rfl rfl
theorem dksL_law_48 : cL_law.data.toList.drop 1260 = dktL_law_48 := dk_seg dksL_law_47 24 rfl rfl
theorem dksL_law_49 : cL_law.data.toList.drop 1284 = dktL_law_49 := dk_seg dksL_law_48 24 rfl rfl
theorem dksL_law_50 : cL_law.data.toList.drop 1306 = dktL_law_50 := dk_seg dksL_law_49 22 rfl rfl
theorem dksL_law_51 : cL_law.data.toList.drop 1330 = dktL_law_51 := dk_seg dksL_law_50 24 rfl rfl
theorem dksL_law_52 : cL_law.data.toList.drop 1354 = dktL_law_52 := dk_seg dksL_law_51 24 rfl rfl
theorem dksL_law_53 : cL_law.data.toList.drop 1377 = dktL_law_53 := dk_seg dksL_law_52 23 rfl rfl
theorem dksL_law_54 : cL_law.data.toList.drop 1401 = dktL_law_54 := dk_seg dksL_law_53 24 rfl rfl
theorem dksL_law_55 : cL_law.data.toList.drop 1425 = dktL_law_55 := dk_seg dksL_law_54 24 rfl rfl
theorem dksL_law_56 : cL_law.data.toList.drop 1448 = dktL_law_56 := dk_seg dksL_law_55 23 rfl rfl
theorem dksL_law_57 : cL_law.data.toList.drop 1472 = dktL_law_57 := dk_seg dksL_law_56 24 rfl rfl
theorem dksL_law_58 : cL_law.data.toList.drop 1496 = dktL_law_58 := dk_seg dksL_law_57 24 rfl rfl
theorem dksL_law_59 : cL_law.data.toList.drop 1520 = dktL_law_59 := dk_seg dksL_law_58 24 rfl rfl
theorem dksL_law_60 : cL_law.data.toList.drop 1542 = dktL_law_60 := dk_seg dksL_law_59 22 rfl rfl
theorem dksL_law_61 : cL_law.data.toList.drop 1565 = dktL_law_61 := dk_seg dksL_law_60 23 rfl rfl
theorem dksL_law_62 : cL_law.data.toList.drop 1587 = dktL_law_62 := dk_seg dksL_law_61 22 rfl rfl
theorem dksL_law_63 : cL_law.data.toList.drop 1610 = dktL_law_63 := dk_seg dksL_law_62 23 rfl rfl
theorem dksL_law_64 : cL_law.data.toList.drop 1634 = dktL_law_64 := dk_seg dksL_law_63 24 rfl rfl
theorem dksL_law_65 : cL_law.data.toList.drop 1658 = dktL_law_65 := dk_seg dksL_law_64 24 rfl rfl
theorem dksL_law_66 : cL_law.data.toList.drop 1681 = dktL_law_66 := dk_seg dksL_law_65 23 rfl rfl
theorem dksL_law_67 : cL_law.data.toList.drop 1704 = dktL_law_67 := dk_seg dksL_law_66 23 rfl rfl
theorem dksL_law_68 : cL_law.data.toList.drop 1728 = dktL_law_68 := dk_seg dksL_law_67 24 rfl rfl
theorem dksL_law_69 : cL_law.data.toList.drop 1752 = dktL_law_69 := dk_seg dksL_law_68 24 rfl rfl
theorem dksL_law_70 : cL_law.data.toList.drop 1774 = dktL_law_70 := dk_seg dksL_law_69 22 rfl rfl
theorem dksL_law_71 : cL_law.data.toList.drop 1798 = dktL_law_71 := dk_seg dksL_law_70 24 rfl rfl
theorem dksL_law_72 : cL_law.data.toList.drop 1820 = dktL_law_72 := dk_seg dksL_law_71 22 rfl rfl
theorem dksL_law_73 : cL_law.data.toList.drop 1842 = dktL_law_73 := dk_seg dksL_law_72 22 rfl rfl
theorem dksL_law_74 : cL_law.data.toList.drop 1866 = dktL_law_74 := dk_seg dksL_law_73 24 rfl rfl
theorem dksL_law_75 : cL_law.data.toList.drop 1889 = dktL_law_75 := dk_seg dksL_law_74 23 rfl rfl
theorem dksL_law_76 : cL_law.data.toList.drop 1911 = dktL_law_76 := dk_seg dksL_law_75 22 rfl rfl
theorem dksL_law_77 : cL_law.data.toList.drop 1935 = dktL_law_77 := dk_seg dksL_law_76 24 rfl rfl
theorem dksL_law_78 : cL_law.data.toList.drop 1958 = dktL_law_78 := dk_seg dksL_law_77 23 rfl rfl
theorem dksL_law_79 : cL_law.data.toList.drop 1980 = dktL_law_79 := dk_seg dksL_law_78 22 rfl rfl
theorem dksL_law_80 : cL_law.data.toList.drop 2004 = dktL_law_80 := dk_seg dksL_law_79 24 rfl rfl
theorem dksL_law_81 : cL_law.data.toList.drop 2026 = dktL_law_81 := dk_seg dksL_law_80 22 rfl rfl
theorem dksL_law_82 : cL_law.data.toList.drop 2048 = dktL_law_82 := dk_seg dksL_law_81 22 rfl rfl
theorem dksL_law_83 : cL_law.data.toList.drop 2072 = dktL_law_83 := dk_seg dksL_law_82 24 rfl rfl
theorem dksL_law_84 : cL_law.data.toList.drop 2095 = dktL_law_84 := dk_seg dksL_law_83 23 rfl rfl
theorem dksL_law_85 : cL_law.data.toList.drop 2117 = dktL_law_85 := dk_seg dksL_law_84 22 rfl rfl
theorem dksL_law_86 : cL_law.data.toList.drop 2140 = dktL_law_86 := dk_seg dksL_law_85 23 rfl rfl
theorem dksL_law_87 : cL_law.data.toList.drop 2164 = dktL_law_87 := dk_seg dksL_law_86 24 rfl rfl
theorem dksL_law_88 : cL_law.data.toList.drop 2188 = dktL_law_88 := dk_seg dksL_law_87 24 rfl rfl
theorem dksL_law_89 : cL_law.data.toList.drop 2212 = dktL_law_89 := dk_seg dksL_law_88 24 rfl rfl
theorem dksL_law_90 : cL_law.data.toList.drop 2235 = dktL_law_90 := dk_seg dksL_law_89 23 rfl rfl
theorem dL_law_0 : decode cL_law 0 = .ok (.new 8, 3) := dk_187 0 8 (dk_at dksL_law_0 0 rfl rfl)
theorem dL_law_3 : decode cL_law 3 = .ok (.dup, 1) := dk_89 (dk_at dksL_law_0 3 rfl rfl)
theorem dL_law_4 : decode cL_law 4 = .ok (.invokespecial 116, 3) := dk_183 0 116 (dk_at dksL_law_0 4 rfl rfl)
theorem dL_law_7 : decode cL_law 7 = .ok (.astore_n 1, 1) := dk_76 (dk_at dksL_law_0 7 rfl rfl)
theorem dL_law_8 : decode cL_law 8 = .ok (.new 117, 3) := dk_187 0 117 (dk_at dksL_law_0 8 rfl rfl)
theorem dL_law_11 : decode cL_law 11 = .ok (.dup, 1) := dk_89 (dk_at dksL_law_0 11 rfl rfl)
theorem dL_law_12 : decode cL_law 12 = .ok (.invokespecial 119, 3) := dk_183 0 119 (dk_at dksL_law_0 12 rfl rfl)
theorem dL_law_15 : decode cL_law 15 = .ok (.astore_n 2, 1) := dk_77 (dk_at dksL_law_0 15 rfl rfl)
theorem dL_law_16 : decode cL_law 16 = .ok (.iconst 1, 1) := dk_4 (dk_at dksL_law_0 16 rfl rfl)
theorem dL_law_17 : decode cL_law 17 = .ok (.newarray .long, 2) := dk_188_11 (dk_at dksL_law_0 17 rfl rfl)
theorem dL_law_19 : decode cL_law 19 = .ok (.astore_n 3, 1) := dk_78 (dk_at dksL_law_0 19 rfl rfl)
theorem dL_law_20 : decode cL_law 20 = .ok (.iconst 0, 1) := dk_3 (dk_at dksL_law_0 20 rfl rfl)
theorem dL_law_21 : decode cL_law 21 = .ok (.istore 4, 2) := dk_54 4 (dk_at dksL_law_0 21 rfl rfl)
theorem dL_law_23 : decode cL_law 23 = .ok (.iload 4, 2) := dk_21 4 (dk_at dksL_law_1 0 rfl rfl)
theorem dL_law_25 : decode cL_law 25 = .ok (.aload_n 0, 1) := dk_42 (dk_at dksL_law_1 2 rfl rfl)
theorem dL_law_26 : decode cL_law 26 = .ok (.arraylength, 1) := dk_190 (dk_at dksL_law_1 3 rfl rfl)
theorem dL_law_27 : decode cL_law 27 = .ok (.bipush 6, 2) := dk_16 6 (dk_at dksL_law_1 4 rfl rfl)
theorem dL_law_29 : decode cL_law 29 = .ok (.isub, 1) := dk_100 (dk_at dksL_law_1 6 rfl rfl)
theorem dL_law_30 : decode cL_law 30 = .ok (.if_icmp .gt 2224, 3) := dk_163 8 176 (dk_at dksL_law_1 7 rfl rfl)
theorem dL_law_33 : decode cL_law 33 = .ok (.aload_n 0, 1) := dk_42 (dk_at dksL_law_1 10 rfl rfl)
theorem dL_law_34 : decode cL_law 34 = .ok (.iload 4, 2) := dk_21 4 (dk_at dksL_law_1 11 rfl rfl)
theorem dL_law_36 : decode cL_law 36 = .ok (.iaload, 1) := dk_46 (dk_at dksL_law_1 13 rfl rfl)
theorem dL_law_37 : decode cL_law 37 = .ok (.bipush 63, 2) := dk_16 63 (dk_at dksL_law_1 14 rfl rfl)
theorem dL_law_39 : decode cL_law 39 = .ok (.iand, 1) := dk_126 (dk_at dksL_law_1 16 rfl rfl)
theorem dL_law_40 : decode cL_law 40 = .ok (.tableswitch 2208 0 36 #[164, 220, 276, 289, 302, 315, 371, 439, 519, 587, 667, 747, 815, 883, 986, 1042, 1086, 1190, 1258, 1302, 1370, 1426, 1494, 1550, 1606, 1681, 1737, 1805, 1818, 1874, 1887, 1943, 2011, 2024, 2080, 2136, 2172], 164) := by decide +kernel
theorem dL_law_204 : decode cL_law 204 = .ok (.aload_n 1, 1) := dk_43 (dk_at dksL_law_3 0 rfl rfl)
theorem dL_law_205 : decode cL_law 205 = .ok (.aload_n 0, 1) := dk_42 (dk_at dksL_law_3 1 rfl rfl)
theorem dL_law_206 : decode cL_law 206 = .ok (.iload 4, 2) := dk_21 4 (dk_at dksL_law_3 2 rfl rfl)
theorem dL_law_208 : decode cL_law 208 = .ok (.iconst 1, 1) := dk_4 (dk_at dksL_law_3 4 rfl rfl)
theorem dL_law_209 : decode cL_law 209 = .ok (.iadd, 1) := dk_96 (dk_at dksL_law_3 5 rfl rfl)
theorem dL_law_210 : decode cL_law 210 = .ok (.iaload, 1) := dk_46 (dk_at dksL_law_3 6 rfl rfl)
theorem dL_law_211 : decode cL_law 211 = .ok (.aload_n 3, 1) := dk_45 (dk_at dksL_law_3 7 rfl rfl)
theorem dL_law_212 : decode cL_law 212 = .ok (.invokestatic 120, 3) := dk_184 0 120 (dk_at dksL_law_3 8 rfl rfl)
theorem dL_law_215 : decode cL_law 215 = .ok (.istore 5, 2) := dk_54 5 (dk_at dksL_law_3 11 rfl rfl)
theorem dL_law_217 : decode cL_law 217 = .ok (.aload_n 2, 1) := dk_44 (dk_at dksL_law_3 13 rfl rfl)
theorem dL_law_218 : decode cL_law 218 = .ok (.aload_n 0, 1) := dk_42 (dk_at dksL_law_3 14 rfl rfl)
theorem dL_law_219 : decode cL_law 219 = .ok (.iload 4, 2) := dk_21 4 (dk_at dksL_law_3 15 rfl rfl)
theorem dL_law_221 : decode cL_law 221 = .ok (.iconst 1, 1) := dk_4 (dk_at dksL_law_3 17 rfl rfl)
theorem dL_law_222 : decode cL_law 222 = .ok (.iadd, 1) := dk_96 (dk_at dksL_law_3 18 rfl rfl)
theorem dL_law_223 : decode cL_law 223 = .ok (.iaload, 1) := dk_46 (dk_at dksL_law_3 19 rfl rfl)
theorem dL_law_224 : decode cL_law 224 = .ok (.invokevirtual 125, 3) := dk_182 0 125 (dk_at dksL_law_3 20 rfl rfl)
theorem dL_law_227 : decode cL_law 227 = .ok (.istore 6, 2) := dk_54 6 (dk_at dksL_law_4 0 rfl rfl)
theorem dL_law_229 : decode cL_law 229 = .ok (.aload_n 2, 1) := dk_44 (dk_at dksL_law_4 2 rfl rfl)
theorem dL_law_230 : decode cL_law 230 = .ok (.invokevirtual 126, 3) := dk_182 0 126 (dk_at dksL_law_4 3 rfl rfl)
theorem dL_law_233 : decode cL_law 233 = .ok (.iload 5, 2) := dk_21 5 (dk_at dksL_law_4 6 rfl rfl)
theorem dL_law_235 : decode cL_law 235 = .ok (.if_icmp .eq 5, 3) := dk_159 0 5 (dk_at dksL_law_4 8 rfl rfl)
theorem dL_law_238 : decode cL_law 238 = .ok (.iconst 0, 1) := dk_3 (dk_at dksL_law_4 11 rfl rfl)
theorem dL_law_239 : decode cL_law 239 = .ok (.ireturn, 1) := dk_172 (dk_at dksL_law_4 12 rfl rfl)
theorem dL_law_240 : decode cL_law 240 = .ok (.iload 5, 2) := dk_21 5 (dk_at dksL_law_4 13 rfl rfl)
theorem dL_law_242 : decode cL_law 242 = .ok (.ifCond .ne 15, 3) := dk_154 0 15 (dk_at dksL_law_4 15 rfl rfl)
theorem dL_law_245 : decode cL_law 245 = .ok (.aload_n 3, 1) := dk_45 (dk_at dksL_law_4 18 rfl rfl)
theorem dL_law_246 : decode cL_law 246 = .ok (.iconst 0, 1) := dk_3 (dk_at dksL_law_4 19 rfl rfl)
theorem dL_law_247 : decode cL_law 247 = .ok (.laload, 1) := dk_47 (dk_at dksL_law_4 20 rfl rfl)
theorem dL_law_248 : decode cL_law 248 = .ok (.iload 6, 2) := dk_21 6 (dk_at dksL_law_4 21 rfl rfl)
theorem dL_law_250 : decode cL_law 250 = .ok (.i2l, 1) := dk_133 (dk_at dksL_law_4 23 rfl rfl)
theorem dL_law_251 : decode cL_law 251 = .ok (.lcmp, 1) := dk_148 (dk_at dksL_law_5 0 rfl rfl)
theorem dL_law_252 : decode cL_law 252 = .ok (.ifCond .eq 5, 3) := dk_153 0 5 (dk_at dksL_law_5 1 rfl rfl)
theorem dL_law_255 : decode cL_law 255 = .ok (.iconst 0, 1) := dk_3 (dk_at dksL_law_5 4 rfl rfl)
theorem dL_law_256 : decode cL_law 256 = .ok (.ireturn, 1) := dk_172 (dk_at dksL_law_5 5 rfl rfl)
theorem dL_law_257 : decode cL_law 257 = .ok (.goto 1991, 3) := dk_167 7 199 (dk_at dksL_law_5 6 rfl rfl)
theorem dL_law_260 : decode cL_law 260 = .ok (.aload_n 1, 1) := dk_43 (dk_at dksL_law_5 9 rfl rfl)
theorem dL_law_261 : decode cL_law 261 = .ok (.aload_n 0, 1) := dk_42 (dk_at dksL_law_5 10 rfl rfl)
theorem dL_law_262 : decode cL_law 262 = .ok (.iload 4, 2) := dk_21 4 (dk_at dksL_law_5 11 rfl rfl)
theorem dL_law_264 : decode cL_law 264 = .ok (.iconst 1, 1) := dk_4 (dk_at dksL_law_5 13 rfl rfl)
theorem dL_law_265 : decode cL_law 265 = .ok (.iadd, 1) := dk_96 (dk_at dksL_law_5 14 rfl rfl)
theorem dL_law_266 : decode cL_law 266 = .ok (.iaload, 1) := dk_46 (dk_at dksL_law_5 15 rfl rfl)
theorem dL_law_267 : decode cL_law 267 = .ok (.aload_n 3, 1) := dk_45 (dk_at dksL_law_5 16 rfl rfl)
theorem dL_law_268 : decode cL_law 268 = .ok (.invokestatic 129, 3) := dk_184 0 129 (dk_at dksL_law_5 17 rfl rfl)
theorem dL_law_271 : decode cL_law 271 = .ok (.istore 5, 2) := dk_54 5 (dk_at dksL_law_5 20 rfl rfl)
theorem dL_law_273 : decode cL_law 273 = .ok (.aload_n 2, 1) := dk_44 (dk_at dksL_law_5 22 rfl rfl)
theorem dL_law_274 : decode cL_law 274 = .ok (.aload_n 0, 1) := dk_42 (dk_at dksL_law_5 23 rfl rfl)
theorem dL_law_275 : decode cL_law 275 = .ok (.iload 4, 2) := dk_21 4 (dk_at dksL_law_6 0 rfl rfl)
theorem dL_law_277 : decode cL_law 277 = .ok (.iconst 1, 1) := dk_4 (dk_at dksL_law_6 2 rfl rfl)
theorem dL_law_278 : decode cL_law 278 = .ok (.iadd, 1) := dk_96 (dk_at dksL_law_6 3 rfl rfl)
theorem dL_law_279 : decode cL_law 279 = .ok (.iaload, 1) := dk_46 (dk_at dksL_law_6 4 rfl rfl)
theorem dL_law_280 : decode cL_law 280 = .ok (.invokevirtual 131, 3) := dk_182 0 131 (dk_at dksL_law_6 5 rfl rfl)
theorem dL_law_283 : decode cL_law 283 = .ok (.istore 6, 2) := dk_54 6 (dk_at dksL_law_6 8 rfl rfl)
theorem dL_law_285 : decode cL_law 285 = .ok (.aload_n 2, 1) := dk_44 (dk_at dksL_law_6 10 rfl rfl)
theorem dL_law_286 : decode cL_law 286 = .ok (.invokevirtual 126, 3) := dk_182 0 126 (dk_at dksL_law_6 11 rfl rfl)
theorem dL_law_289 : decode cL_law 289 = .ok (.iload 5, 2) := dk_21 5 (dk_at dksL_law_6 14 rfl rfl)
theorem dL_law_291 : decode cL_law 291 = .ok (.if_icmp .eq 5, 3) := dk_159 0 5 (dk_at dksL_law_6 16 rfl rfl)
theorem dL_law_294 : decode cL_law 294 = .ok (.iconst 0, 1) := dk_3 (dk_at dksL_law_6 19 rfl rfl)
theorem dL_law_295 : decode cL_law 295 = .ok (.ireturn, 1) := dk_172 (dk_at dksL_law_6 20 rfl rfl)
theorem dL_law_296 : decode cL_law 296 = .ok (.iload 5, 2) := dk_21 5 (dk_at dksL_law_6 21 rfl rfl)
theorem dL_law_298 : decode cL_law 298 = .ok (.ifCond .ne 15, 3) := dk_154 0 15 (dk_at dksL_law_7 0 rfl rfl)
theorem dL_law_301 : decode cL_law 301 = .ok (.aload_n 3, 1) := dk_45 (dk_at dksL_law_7 3 rfl rfl)
theorem dL_law_302 : decode cL_law 302 = .ok (.iconst 0, 1) := dk_3 (dk_at dksL_law_7 4 rfl rfl)
theorem dL_law_303 : decode cL_law 303 = .ok (.laload, 1) := dk_47 (dk_at dksL_law_7 5 rfl rfl)
theorem dL_law_304 : decode cL_law 304 = .ok (.iload 6, 2) := dk_21 6 (dk_at dksL_law_7 6 rfl rfl)
theorem dL_law_306 : decode cL_law 306 = .ok (.i2l, 1) := dk_133 (dk_at dksL_law_7 8 rfl rfl)
theorem dL_law_307 : decode cL_law 307 = .ok (.lcmp, 1) := dk_148 (dk_at dksL_law_7 9 rfl rfl)
theorem dL_law_308 : decode cL_law 308 = .ok (.ifCond .eq 5, 3) := dk_153 0 5 (dk_at dksL_law_7 10 rfl rfl)
theorem dL_law_311 : decode cL_law 311 = .ok (.iconst 0, 1) := dk_3 (dk_at dksL_law_7 13 rfl rfl)
theorem dL_law_312 : decode cL_law 312 = .ok (.ireturn, 1) := dk_172 (dk_at dksL_law_7 14 rfl rfl)
theorem dL_law_313 : decode cL_law 313 = .ok (.goto 1935, 3) := dk_167 7 143 (dk_at dksL_law_7 15 rfl rfl)
theorem dL_law_316 : decode cL_law 316 = .ok (.aload_n 1, 1) := dk_43 (dk_at dksL_law_7 18 rfl rfl)
theorem dL_law_317 : decode cL_law 317 = .ok (.invokevirtual 132, 3) := dk_182 0 132 (dk_at dksL_law_7 19 rfl rfl)
theorem dL_law_320 : decode cL_law 320 = .ok (.aload_n 2, 1) := dk_44 (dk_at dksL_law_7 22 rfl rfl)
theorem dL_law_321 : decode cL_law 321 = .ok (.invokevirtual 135, 3) := dk_182 0 135 (dk_at dksL_law_8 0 rfl rfl)
theorem dL_law_324 : decode cL_law 324 = .ok (.if_icmp .eq 1924, 3) := dk_159 7 132 (dk_at dksL_law_8 3 rfl rfl)
theorem dL_law_327 : decode cL_law 327 = .ok (.iconst 0, 1) := dk_3 (dk_at dksL_law_8 6 rfl rfl)
theorem dL_law_328 : decode cL_law 328 = .ok (.ireturn, 1) := dk_172 (dk_at dksL_law_8 7 rfl rfl)
theorem dL_law_329 : decode cL_law 329 = .ok (.aload_n 1, 1) := dk_43 (dk_at dksL_law_8 8 rfl rfl)
theorem dL_law_330 : decode cL_law 330 = .ok (.invokevirtual 136, 3) := dk_182 0 136 (dk_at dksL_law_8 9 rfl rfl)
theorem dL_law_333 : decode cL_law 333 = .ok (.aload_n 2, 1) := dk_44 (dk_at dksL_law_8 12 rfl rfl)
theorem dL_law_334 : decode cL_law 334 = .ok (.invokevirtual 139, 3) := dk_182 0 139 (dk_at dksL_law_8 13 rfl rfl)
theorem dL_law_337 : decode cL_law 337 = .ok (.if_icmp .eq 1911, 3) := dk_159 7 119 (dk_at dksL_law_8 16 rfl rfl)
theorem dL_law_340 : decode cL_law 340 = .ok (.iconst 0, 1) := dk_3 (dk_at dksL_law_8 19 rfl rfl)
theorem dL_law_341 : decode cL_law 341 = .ok (.ireturn, 1) := dk_172 (dk_at dksL_law_8 20 rfl rfl)
theorem dL_law_342 : decode cL_law 342 = .ok (.aload_n 1, 1) := dk_43 (dk_at dksL_law_8 21 rfl rfl)
theorem dL_law_343 : decode cL_law 343 = .ok (.invokevirtual 140, 3) := dk_182 0 140 (dk_at dksL_law_9 0 rfl rfl)
theorem dL_law_346 : decode cL_law 346 = .ok (.aload_n 2, 1) := dk_44 (dk_at dksL_law_9 3 rfl rfl)
theorem dL_law_347 : decode cL_law 347 = .ok (.invokevirtual 143, 3) := dk_182 0 143 (dk_at dksL_law_9 4 rfl rfl)
theorem dL_law_350 : decode cL_law 350 = .ok (.if_icmp .eq 1898, 3) := dk_159 7 106 (dk_at dksL_law_9 7 rfl rfl)
theorem dL_law_353 : decode cL_law 353 = .ok (.iconst 0, 1) := dk_3 (dk_at dksL_law_9 10 rfl rfl)
theorem dL_law_354 : decode cL_law 354 = .ok (.ireturn, 1) := dk_172 (dk_at dksL_law_9 11 rfl rfl)
theorem dL_law_355 : decode cL_law 355 = .ok (.aload_n 1, 1) := dk_43 (dk_at dksL_law_9 12 rfl rfl)
theorem dL_law_356 : decode cL_law 356 = .ok (.aload_n 0, 1) := dk_42 (dk_at dksL_law_9 13 rfl rfl)
theorem dL_law_357 : decode cL_law 357 = .ok (.iload 4, 2) := dk_21 4 (dk_at dksL_law_9 14 rfl rfl)
theorem dL_law_359 : decode cL_law 359 = .ok (.iconst 1, 1) := dk_4 (dk_at dksL_law_9 16 rfl rfl)
theorem dL_law_360 : decode cL_law 360 = .ok (.iadd, 1) := dk_96 (dk_at dksL_law_9 17 rfl rfl)
theorem dL_law_361 : decode cL_law 361 = .ok (.iaload, 1) := dk_46 (dk_at dksL_law_9 18 rfl rfl)
theorem dL_law_362 : decode cL_law 362 = .ok (.aload_n 3, 1) := dk_45 (dk_at dksL_law_9 19 rfl rfl)
theorem dL_law_363 : decode cL_law 363 = .ok (.invokestatic 144, 3) := dk_184 0 144 (dk_at dksL_law_9 20 rfl rfl)
theorem dL_law_366 : decode cL_law 366 = .ok (.istore 5, 2) := dk_54 5 (dk_at dksL_law_10 0 rfl rfl)
theorem dL_law_368 : decode cL_law 368 = .ok (.aload_n 2, 1) := dk_44 (dk_at dksL_law_10 2 rfl rfl)
theorem dL_law_369 : decode cL_law 369 = .ok (.aload_n 0, 1) := dk_42 (dk_at dksL_law_10 3 rfl rfl)
theorem dL_law_370 : decode cL_law 370 = .ok (.iload 4, 2) := dk_21 4 (dk_at dksL_law_10 4 rfl rfl)
theorem dL_law_372 : decode cL_law 372 = .ok (.iconst 1, 1) := dk_4 (dk_at dksL_law_10 6 rfl rfl)
theorem dL_law_373 : decode cL_law 373 = .ok (.iadd, 1) := dk_96 (dk_at dksL_law_10 7 rfl rfl)
theorem dL_law_374 : decode cL_law 374 = .ok (.iaload, 1) := dk_46 (dk_at dksL_law_10 8 rfl rfl)
theorem dL_law_375 : decode cL_law 375 = .ok (.invokevirtual 146, 3) := dk_182 0 146 (dk_at dksL_law_10 9 rfl rfl)
theorem dL_law_378 : decode cL_law 378 = .ok (.istore 6, 2) := dk_54 6 (dk_at dksL_law_10 12 rfl rfl)
theorem dL_law_380 : decode cL_law 380 = .ok (.aload_n 2, 1) := dk_44 (dk_at dksL_law_10 14 rfl rfl)
theorem dL_law_381 : decode cL_law 381 = .ok (.invokevirtual 126, 3) := dk_182 0 126 (dk_at dksL_law_10 15 rfl rfl)
theorem dL_law_384 : decode cL_law 384 = .ok (.iload 5, 2) := dk_21 5 (dk_at dksL_law_10 18 rfl rfl)
theorem dL_law_386 : decode cL_law 386 = .ok (.if_icmp .eq 5, 3) := dk_159 0 5 (dk_at dksL_law_10 20 rfl rfl)
theorem dL_law_389 : decode cL_law 389 = .ok (.iconst 0, 1) := dk_3 (dk_at dksL_law_10 23 rfl rfl)
theorem dL_law_390 : decode cL_law 390 = .ok (.ireturn, 1) := dk_172 (dk_at dksL_law_11 0 rfl rfl)
theorem dL_law_391 : decode cL_law 391 = .ok (.iload 5, 2) := dk_21 5 (dk_at dksL_law_11 1 rfl rfl)
theorem dL_law_393 : decode cL_law 393 = .ok (.ifCond .ne 15, 3) := dk_154 0 15 (dk_at dksL_law_11 3 rfl rfl)
theorem dL_law_396 : decode cL_law 396 = .ok (.aload_n 3, 1) := dk_45 (dk_at dksL_law_11 6 rfl rfl)
theorem dL_law_397 : decode cL_law 397 = .ok (.iconst 0, 1) := dk_3 (dk_at dksL_law_11 7 rfl rfl)
theorem dL_law_398 : decode cL_law 398 = .ok (.laload, 1) := dk_47 (dk_at dksL_law_11 8 rfl rfl)
theorem dL_law_399 : decode cL_law 399 = .ok (.iload 6, 2) := dk_21 6 (dk_at dksL_law_11 9 rfl rfl)
theorem dL_law_401 : decode cL_law 401 = .ok (.i2l, 1) := dk_133 (dk_at dksL_law_11 11 rfl rfl)
theorem dL_law_402 : decode cL_law 402 = .ok (.lcmp, 1) := dk_148 (dk_at dksL_law_11 12 rfl rfl)
theorem dL_law_403 : decode cL_law 403 = .ok (.ifCond .eq 5, 3) := dk_153 0 5 (dk_at dksL_law_11 13 rfl rfl)
theorem dL_law_406 : decode cL_law 406 = .ok (.iconst 0, 1) := dk_3 (dk_at dksL_law_11 16 rfl rfl)
theorem dL_law_407 : decode cL_law 407 = .ok (.ireturn, 1) := dk_172 (dk_at dksL_law_11 17 rfl rfl)
theorem dL_law_408 : decode cL_law 408 = .ok (.goto 1840, 3) := dk_167 7 48 (dk_at dksL_law_11 18 rfl rfl)
theorem dL_law_411 : decode cL_law 411 = .ok (.aload_n 1, 1) := dk_43 (dk_at dksL_law_11 21 rfl rfl)
theorem dL_law_412 : decode cL_law 412 = .ok (.aload_n 0, 1) := dk_42 (dk_at dksL_law_11 22 rfl rfl)
theorem dL_law_413 : decode cL_law 413 = .ok (.iload 4, 2) := dk_21 4 (dk_at dksL_law_12 0 rfl rfl)
theorem dL_law_415 : decode cL_law 415 = .ok (.iconst 1, 1) := dk_4 (dk_at dksL_law_12 2 rfl rfl)
theorem dL_law_416 : decode cL_law 416 = .ok (.iadd, 1) := dk_96 (dk_at dksL_law_12 3 rfl rfl)
theorem dL_law_417 : decode cL_law 417 = .ok (.iaload, 1) := dk_46 (dk_at dksL_law_12 4 rfl rfl)
theorem dL_law_418 : decode cL_law 418 = .ok (.aload_n 0, 1) := dk_42 (dk_at dksL_law_12 5 rfl rfl)
theorem dL_law_419 : decode cL_law 419 = .ok (.iload 4, 2) := dk_21 4 (dk_at dksL_law_12 6 rfl rfl)
theorem dL_law_421 : decode cL_law 421 = .ok (.iconst 2, 1) := dk_5 (dk_at dksL_law_12 8 rfl rfl)
theorem dL_law_422 : decode cL_law 422 = .ok (.iadd, 1) := dk_96 (dk_at dksL_law_12 9 rfl rfl)
theorem dL_law_423 : decode cL_law 423 = .ok (.iaload, 1) := dk_46 (dk_at dksL_law_12 10 rfl rfl)
theorem dL_law_424 : decode cL_law 424 = .ok (.aload_n 3, 1) := dk_45 (dk_at dksL_law_12 11 rfl rfl)
theorem dL_law_425 : decode cL_law 425 = .ok (.invokestatic 147, 3) := dk_184 0 147 (dk_at dksL_law_12 12 rfl rfl)
theorem dL_law_428 : decode cL_law 428 = .ok (.istore 5, 2) := dk_54 5 (dk_at dksL_law_12 15 rfl rfl)
theorem dL_law_430 : decode cL_law 430 = .ok (.aload_n 2, 1) := dk_44 (dk_at dksL_law_12 17 rfl rfl)
theorem dL_law_431 : decode cL_law 431 = .ok (.aload_n 0, 1) := dk_42 (dk_at dksL_law_12 18 rfl rfl)
theorem dL_law_432 : decode cL_law 432 = .ok (.iload 4, 2) := dk_21 4 (dk_at dksL_law_12 19 rfl rfl)
theorem dL_law_434 : decode cL_law 434 = .ok (.iconst 1, 1) := dk_4 (dk_at dksL_law_12 21 rfl rfl)
theorem dL_law_435 : decode cL_law 435 = .ok (.iadd, 1) := dk_96 (dk_at dksL_law_12 22 rfl rfl)
theorem dL_law_436 : decode cL_law 436 = .ok (.iaload, 1) := dk_46 (dk_at dksL_law_12 23 rfl rfl)
theorem dL_law_437 : decode cL_law 437 = .ok (.aload_n 0, 1) := dk_42 (dk_at dksL_law_13 0 rfl rfl)
theorem dL_law_438 : decode cL_law 438 = .ok (.iload 4, 2) := dk_21 4 (dk_at dksL_law_13 1 rfl rfl)
theorem dL_law_440 : decode cL_law 440 = .ok (.iconst 2, 1) := dk_5 (dk_at dksL_law_13 3 rfl rfl)
theorem dL_law_441 : decode cL_law 441 = .ok (.iadd, 1) := dk_96 (dk_at dksL_law_13 4 rfl rfl)
theorem dL_law_442 : decode cL_law 442 = .ok (.iaload, 1) := dk_46 (dk_at dksL_law_13 5 rfl rfl)
theorem dL_law_443 : decode cL_law 443 = .ok (.invokevirtual 150, 3) := dk_182 0 150 (dk_at dksL_law_13 6 rfl rfl)
theorem dL_law_446 : decode cL_law 446 = .ok (.istore 6, 2) := dk_54 6 (dk_at dksL_law_13 9 rfl rfl)
theorem dL_law_448 : decode cL_law 448 = .ok (.aload_n 2, 1) := dk_44 (dk_at dksL_law_13 11 rfl rfl)
theorem dL_law_449 : decode cL_law 449 = .ok (.invokevirtual 126, 3) := dk_182 0 126 (dk_at dksL_law_13 12 rfl rfl)
theorem dL_law_452 : decode cL_law 452 = .ok (.iload 5, 2) := dk_21 5 (dk_at dksL_law_13 15 rfl rfl)
theorem dL_law_454 : decode cL_law 454 = .ok (.if_icmp .eq 5, 3) := dk_159 0 5 (dk_at dksL_law_13 17 rfl rfl)
theorem dL_law_457 : decode cL_law 457 = .ok (.iconst 0, 1) := dk_3 (dk_at dksL_law_13 20 rfl rfl)
theorem dL_law_458 : decode cL_law 458 = .ok (.ireturn, 1) := dk_172 (dk_at dksL_law_13 21 rfl rfl)
theorem dL_law_459 : decode cL_law 459 = .ok (.iload 5, 2) := dk_21 5 (dk_at dksL_law_13 22 rfl rfl)
theorem dL_law_461 : decode cL_law 461 = .ok (.ifCond .ne 15, 3) := dk_154 0 15 (dk_at dksL_law_14 0 rfl rfl)
theorem dL_law_464 : decode cL_law 464 = .ok (.aload_n 3, 1) := dk_45 (dk_at dksL_law_14 3 rfl rfl)
theorem dL_law_465 : decode cL_law 465 = .ok (.iconst 0, 1) := dk_3 (dk_at dksL_law_14 4 rfl rfl)
theorem dL_law_466 : decode cL_law 466 = .ok (.laload, 1) := dk_47 (dk_at dksL_law_14 5 rfl rfl)
theorem dL_law_467 : decode cL_law 467 = .ok (.iload 6, 2) := dk_21 6 (dk_at dksL_law_14 6 rfl rfl)
theorem dL_law_469 : decode cL_law 469 = .ok (.i2l, 1) := dk_133 (dk_at dksL_law_14 8 rfl rfl)
theorem dL_law_470 : decode cL_law 470 = .ok (.lcmp, 1) := dk_148 (dk_at dksL_law_14 9 rfl rfl)
theorem dL_law_471 : decode cL_law 471 = .ok (.ifCond .eq 5, 3) := dk_153 0 5 (dk_at dksL_law_14 10 rfl rfl)
theorem dL_law_474 : decode cL_law 474 = .ok (.iconst 0, 1) := dk_3 (dk_at dksL_law_14 13 rfl rfl)
theorem dL_law_475 : decode cL_law 475 = .ok (.ireturn, 1) := dk_172 (dk_at dksL_law_14 14 rfl rfl)
theorem dL_law_476 : decode cL_law 476 = .ok (.goto 1772, 3) := dk_167 6 236 (dk_at dksL_law_14 15 rfl rfl)
theorem dL_law_479 : decode cL_law 479 = .ok (.aload_n 1, 1) := dk_43 (dk_at dksL_law_14 18 rfl rfl)
theorem dL_law_480 : decode cL_law 480 = .ok (.aload_n 0, 1) := dk_42 (dk_at dksL_law_14 19 rfl rfl)
theorem dL_law_481 : decode cL_law 481 = .ok (.iload 4, 2) := dk_21 4 (dk_at dksL_law_14 20 rfl rfl)
theorem dL_law_483 : decode cL_law 483 = .ok (.iconst 1, 1) := dk_4 (dk_at dksL_law_14 22 rfl rfl)
theorem dL_law_484 : decode cL_law 484 = .ok (.iadd, 1) := dk_96 (dk_at dksL_law_14 23 rfl rfl)
theorem dL_law_485 : decode cL_law 485 = .ok (.iaload, 1) := dk_46 (dk_at dksL_law_15 0 rfl rfl)
theorem dL_law_486 : decode cL_law 486 = .ok (.aload_n 0, 1) := dk_42 (dk_at dksL_law_15 1 rfl rfl)
theorem dL_law_487 : decode cL_law 487 = .ok (.iload 4, 2) := dk_21 4 (dk_at dksL_law_15 2 rfl rfl)
theorem dL_law_489 : decode cL_law 489 = .ok (.iconst 2, 1) := dk_5 (dk_at dksL_law_15 4 rfl rfl)
theorem dL_law_490 : decode cL_law 490 = .ok (.iadd, 1) := dk_96 (dk_at dksL_law_15 5 rfl rfl)
theorem dL_law_491 : decode cL_law 491 = .ok (.iaload, 1) := dk_46 (dk_at dksL_law_15 6 rfl rfl)
theorem dL_law_492 : decode cL_law 492 = .ok (.aload_n 0, 1) := dk_42 (dk_at dksL_law_15 7 rfl rfl)
theorem dL_law_493 : decode cL_law 493 = .ok (.iload 4, 2) := dk_21 4 (dk_at dksL_law_15 8 rfl rfl)
theorem dL_law_495 : decode cL_law 495 = .ok (.iconst 3, 1) := dk_6 (dk_at dksL_law_15 10 rfl rfl)
theorem dL_law_496 : decode cL_law 496 = .ok (.iadd, 1) := dk_96 (dk_at dksL_law_15 11 rfl rfl)
theorem dL_law_497 : decode cL_law 497 = .ok (.iaload, 1) := dk_46 (dk_at dksL_law_15 12 rfl rfl)
theorem dL_law_498 : decode cL_law 498 = .ok (.aload_n 3, 1) := dk_45 (dk_at dksL_law_15 13 rfl rfl)
theorem dL_law_499 : decode cL_law 499 = .ok (.invokestatic 151, 3) := dk_184 0 151 (dk_at dksL_law_15 14 rfl rfl)
theorem dL_law_502 : decode cL_law 502 = .ok (.istore 5, 2) := dk_54 5 (dk_at dksL_law_15 17 rfl rfl)
theorem dL_law_504 : decode cL_law 504 = .ok (.aload_n 2, 1) := dk_44 (dk_at dksL_law_15 19 rfl rfl)
theorem dL_law_505 : decode cL_law 505 = .ok (.aload_n 0, 1) := dk_42 (dk_at dksL_law_15 20 rfl rfl)
theorem dL_law_506 : decode cL_law 506 = .ok (.iload 4, 2) := dk_21 4 (dk_at dksL_law_15 21 rfl rfl)
theorem dL_law_508 : decode cL_law 508 = .ok (.iconst 1, 1) := dk_4 (dk_at dksL_law_15 23 rfl rfl)
theorem dL_law_509 : decode cL_law 509 = .ok (.iadd, 1) := dk_96 (dk_at dksL_law_16 0 rfl rfl)
theorem dL_law_510 : decode cL_law 510 = .ok (.iaload, 1) := dk_46 (dk_at dksL_law_16 1 rfl rfl)
theorem dL_law_511 : decode cL_law 511 = .ok (.aload_n 0, 1) := dk_42 (dk_at dksL_law_16 2 rfl rfl)
theorem dL_law_512 : decode cL_law 512 = .ok (.iload 4, 2) := dk_21 4 (dk_at dksL_law_16 3 rfl rfl)
theorem dL_law_514 : decode cL_law 514 = .ok (.iconst 2, 1) := dk_5 (dk_at dksL_law_16 5 rfl rfl)
theorem dL_law_515 : decode cL_law 515 = .ok (.iadd, 1) := dk_96 (dk_at dksL_law_16 6 rfl rfl)
theorem dL_law_516 : decode cL_law 516 = .ok (.iaload, 1) := dk_46 (dk_at dksL_law_16 7 rfl rfl)
theorem dL_law_517 : decode cL_law 517 = .ok (.aload_n 0, 1) := dk_42 (dk_at dksL_law_16 8 rfl rfl)
theorem dL_law_518 : decode cL_law 518 = .ok (.iload 4, 2) := dk_21 4 (dk_at dksL_law_16 9 rfl rfl)
theorem dL_law_520 : decode cL_law 520 = .ok (.iconst 3, 1) := dk_6 (dk_at dksL_law_16 11 rfl rfl)
theorem dL_law_521 : decode cL_law 521 = .ok (.iadd, 1) := dk_96 (dk_at dksL_law_16 12 rfl rfl)
theorem dL_law_522 : decode cL_law 522 = .ok (.iaload, 1) := dk_46 (dk_at dksL_law_16 13 rfl rfl)
theorem dL_law_523 : decode cL_law 523 = .ok (.invokevirtual 154, 3) := dk_182 0 154 (dk_at dksL_law_16 14 rfl rfl)
theorem dL_law_526 : decode cL_law 526 = .ok (.istore 6, 2) := dk_54 6 (dk_at dksL_law_16 17 rfl rfl)
theorem dL_law_528 : decode cL_law 528 = .ok (.aload_n 2, 1) := dk_44 (dk_at dksL_law_16 19 rfl rfl)
theorem dL_law_529 : decode cL_law 529 = .ok (.invokevirtual 126, 3) := dk_182 0 126 (dk_at dksL_law_16 20 rfl rfl)
theorem dL_law_532 : decode cL_law 532 = .ok (.iload 5, 2) := dk_21 5 (dk_at dksL_law_17 0 rfl rfl)
theorem dL_law_534 : decode cL_law 534 = .ok (.if_icmp .eq 5, 3) := dk_159 0 5 (dk_at dksL_law_17 2 rfl rfl)
theorem dL_law_537 : decode cL_law 537 = .ok (.iconst 0, 1) := dk_3 (dk_at dksL_law_17 5 rfl rfl)
theorem dL_law_538 : decode cL_law 538 = .ok (.ireturn, 1) := dk_172 (dk_at dksL_law_17 6 rfl rfl)
theorem dL_law_539 : decode cL_law 539 = .ok (.iload 5, 2) := dk_21 5 (dk_at dksL_law_17 7 rfl rfl)
theorem dL_law_541 : decode cL_law 541 = .ok (.ifCond .ne 15, 3) := dk_154 0 15 (dk_at dksL_law_17 9 rfl rfl)
theorem dL_law_544 : decode cL_law 544 = .ok (.aload_n 3, 1) := dk_45 (dk_at dksL_law_17 12 rfl rfl)
theorem dL_law_545 : decode cL_law 545 = .ok (.iconst 0, 1) := dk_3 (dk_at dksL_law_17 13 rfl rfl)
theorem dL_law_546 : decode cL_law 546 = .ok (.laload, 1) := dk_47 (dk_at dksL_law_17 14 rfl rfl)
theorem dL_law_547 : decode cL_law 547 = .ok (.iload 6, 2) := dk_21 6 (dk_at dksL_law_17 15 rfl rfl)
theorem dL_law_549 : decode cL_law 549 = .ok (.i2l, 1) := dk_133 (dk_at dksL_law_17 17 rfl rfl)
theorem dL_law_550 : decode cL_law 550 = .ok (.lcmp, 1) := dk_148 (dk_at dksL_law_17 18 rfl rfl)
theorem dL_law_551 : decode cL_law 551 = .ok (.ifCond .eq 5, 3) := dk_153 0 5 (dk_at dksL_law_17 19 rfl rfl)
theorem dL_law_554 : decode cL_law 554 = .ok (.iconst 0, 1) := dk_3 (dk_at dksL_law_17 22 rfl rfl)
theorem dL_law_555 : decode cL_law 555 = .ok (.ireturn, 1) := dk_172 (dk_at dksL_law_17 23 rfl rfl)
theorem dL_law_556 : decode cL_law 556 = .ok (.goto 1692, 3) := dk_167 6 156 (dk_at dksL_law_18 0 rfl rfl)
theorem dL_law_559 : decode cL_law 559 = .ok (.aload_n 1, 1) := dk_43 (dk_at dksL_law_18 3 rfl rfl)
theorem dL_law_560 : decode cL_law 560 = .ok (.aload_n 0, 1) := dk_42 (dk_at dksL_law_18 4 rfl rfl)
theorem dL_law_561 : decode cL_law 561 = .ok (.iload 4, 2) := dk_21 4 (dk_at dksL_law_18 5 rfl rfl)
theorem dL_law_563 : decode cL_law 563 = .ok (.iconst 1, 1) := dk_4 (dk_at dksL_law_18 7 rfl rfl)
theorem dL_law_564 : decode cL_law 564 = .ok (.iadd, 1) := dk_96 (dk_at dksL_law_18 8 rfl rfl)
theorem dL_law_565 : decode cL_law 565 = .ok (.iaload, 1) := dk_46 (dk_at dksL_law_18 9 rfl rfl)
theorem dL_law_566 : decode cL_law 566 = .ok (.aload_n 0, 1) := dk_42 (dk_at dksL_law_18 10 rfl rfl)
theorem dL_law_567 : decode cL_law 567 = .ok (.iload 4, 2) := dk_21 4 (dk_at dksL_law_18 11 rfl rfl)
theorem dL_law_569 : decode cL_law 569 = .ok (.iconst 2, 1) := dk_5 (dk_at dksL_law_18 13 rfl rfl)
theorem dL_law_570 : decode cL_law 570 = .ok (.iadd, 1) := dk_96 (dk_at dksL_law_18 14 rfl rfl)
theorem dL_law_571 : decode cL_law 571 = .ok (.iaload, 1) := dk_46 (dk_at dksL_law_18 15 rfl rfl)
theorem dL_law_572 : decode cL_law 572 = .ok (.aload_n 3, 1) := dk_45 (dk_at dksL_law_18 16 rfl rfl)
theorem dL_law_573 : decode cL_law 573 = .ok (.invokestatic 155, 3) := dk_184 0 155 (dk_at dksL_law_18 17 rfl rfl)
theorem dL_law_576 : decode cL_law 576 = .ok (.istore 5, 2) := dk_54 5 (dk_at dksL_law_18 20 rfl rfl)
theorem dL_law_578 : decode cL_law 578 = .ok (.aload_n 2, 1) := dk_44 (dk_at dksL_law_18 22 rfl rfl)
theorem dL_law_579 : decode cL_law 579 = .ok (.aload_n 0, 1) := dk_42 (dk_at dksL_law_18 23 rfl rfl)
theorem dL_law_580 : decode cL_law 580 = .ok (.iload 4, 2) := dk_21 4 (dk_at dksL_law_19 0 rfl rfl)
theorem dL_law_582 : decode cL_law 582 = .ok (.iconst 1, 1) := dk_4 (dk_at dksL_law_19 2 rfl rfl)
theorem dL_law_583 : decode cL_law 583 = .ok (.iadd, 1) := dk_96 (dk_at dksL_law_19 3 rfl rfl)
theorem dL_law_584 : decode cL_law 584 = .ok (.iaload, 1) := dk_46 (dk_at dksL_law_19 4 rfl rfl)
theorem dL_law_585 : decode cL_law 585 = .ok (.aload_n 0, 1) := dk_42 (dk_at dksL_law_19 5 rfl rfl)
theorem dL_law_586 : decode cL_law 586 = .ok (.iload 4, 2) := dk_21 4 (dk_at dksL_law_19 6 rfl rfl)
theorem dL_law_588 : decode cL_law 588 = .ok (.iconst 2, 1) := dk_5 (dk_at dksL_law_19 8 rfl rfl)
theorem dL_law_589 : decode cL_law 589 = .ok (.iadd, 1) := dk_96 (dk_at dksL_law_19 9 rfl rfl)
theorem dL_law_590 : decode cL_law 590 = .ok (.iaload, 1) := dk_46 (dk_at dksL_law_19 10 rfl rfl)
theorem dL_law_591 : decode cL_law 591 = .ok (.invokevirtual 157, 3) := dk_182 0 157 (dk_at dksL_law_19 11 rfl rfl)
theorem dL_law_594 : decode cL_law 594 = .ok (.istore 6, 2) := dk_54 6 (dk_at dksL_law_19 14 rfl rfl)
theorem dL_law_596 : decode cL_law 596 = .ok (.aload_n 2, 1) := dk_44 (dk_at dksL_law_19 16 rfl rfl)
theorem dL_law_597 : decode cL_law 597 = .ok (.invokevirtual 126, 3) := dk_182 0 126 (dk_at dksL_law_19 17 rfl rfl)
theorem dL_law_600 : decode cL_law 600 = .ok (.iload 5, 2) := dk_21 5 (dk_at dksL_law_19 20 rfl rfl)
theorem dL_law_602 : decode cL_law 602 = .ok (.if_icmp .eq 5, 3) := dk_159 0 5 (dk_at dksL_law_20 0 rfl rfl)
theorem dL_law_605 : decode cL_law 605 = .ok (.iconst 0, 1) := dk_3 (dk_at dksL_law_20 3 rfl rfl)
theorem dL_law_606 : decode cL_law 606 = .ok (.ireturn, 1) := dk_172 (dk_at dksL_law_20 4 rfl rfl)
theorem dL_law_607 : decode cL_law 607 = .ok (.iload 5, 2) := dk_21 5 (dk_at dksL_law_20 5 rfl rfl)
theorem dL_law_609 : decode cL_law 609 = .ok (.ifCond .ne 15, 3) := dk_154 0 15 (dk_at dksL_law_20 7 rfl rfl)
theorem dL_law_612 : decode cL_law 612 = .ok (.aload_n 3, 1) := dk_45 (dk_at dksL_law_20 10 rfl rfl)
theorem dL_law_613 : decode cL_law 613 = .ok (.iconst 0, 1) := dk_3 (dk_at dksL_law_20 11 rfl rfl)
theorem dL_law_614 : decode cL_law 614 = .ok (.laload, 1) := dk_47 (dk_at dksL_law_20 12 rfl rfl)
theorem dL_law_615 : decode cL_law 615 = .ok (.iload 6, 2) := dk_21 6 (dk_at dksL_law_20 13 rfl rfl)
theorem dL_law_617 : decode cL_law 617 = .ok (.i2l, 1) := dk_133 (dk_at dksL_law_20 15 rfl rfl)
theorem dL_law_618 : decode cL_law 618 = .ok (.lcmp, 1) := dk_148 (dk_at dksL_law_20 16 rfl rfl)
theorem dL_law_619 : decode cL_law 619 = .ok (.ifCond .eq 5, 3) := dk_153 0 5 (dk_at dksL_law_20 17 rfl rfl)
theorem dL_law_622 : decode cL_law 622 = .ok (.iconst 0, 1) := dk_3 (dk_at dksL_law_20 20 rfl rfl)
theorem dL_law_623 : decode cL_law 623 = .ok (.ireturn, 1) := dk_172 (dk_at dksL_law_20 21 rfl rfl)
theorem dL_law_624 : decode cL_law 624 = .ok (.goto 1624, 3) := dk_167 6 88 (dk_at dksL_law_21 0 rfl rfl)
theorem dL_law_627 : decode cL_law 627 = .ok (.aload_n 1, 1) := dk_43 (dk_at dksL_law_21 3 rfl rfl)
theorem dL_law_628 : decode cL_law 628 = .ok (.aload_n 0, 1) := dk_42 (dk_at dksL_law_21 4 rfl rfl)
theorem dL_law_629 : decode cL_law 629 = .ok (.iload 4, 2) := dk_21 4 (dk_at dksL_law_21 5 rfl rfl)
theorem dL_law_631 : decode cL_law 631 = .ok (.iconst 1, 1) := dk_4 (dk_at dksL_law_21 7 rfl rfl)
theorem dL_law_632 : decode cL_law 632 = .ok (.iadd, 1) := dk_96 (dk_at dksL_law_21 8 rfl rfl)
theorem dL_law_633 : decode cL_law 633 = .ok (.iaload, 1) := dk_46 (dk_at dksL_law_21 9 rfl rfl)
theorem dL_law_634 : decode cL_law 634 = .ok (.aload_n 0, 1) := dk_42 (dk_at dksL_law_21 10 rfl rfl)
theorem dL_law_635 : decode cL_law 635 = .ok (.iload 4, 2) := dk_21 4 (dk_at dksL_law_21 11 rfl rfl)
theorem dL_law_637 : decode cL_law 637 = .ok (.iconst 2, 1) := dk_5 (dk_at dksL_law_21 13 rfl rfl)
theorem dL_law_638 : decode cL_law 638 = .ok (.iadd, 1) := dk_96 (dk_at dksL_law_21 14 rfl rfl)
theorem dL_law_639 : decode cL_law 639 = .ok (.iaload, 1) := dk_46 (dk_at dksL_law_21 15 rfl rfl)
theorem dL_law_640 : decode cL_law 640 = .ok (.aload_n 0, 1) := dk_42 (dk_at dksL_law_21 16 rfl rfl)
theorem dL_law_641 : decode cL_law 641 = .ok (.iload 4, 2) := dk_21 4 (dk_at dksL_law_21 17 rfl rfl)
theorem dL_law_643 : decode cL_law 643 = .ok (.iconst 3, 1) := dk_6 (dk_at dksL_law_21 19 rfl rfl)
theorem dL_law_644 : decode cL_law 644 = .ok (.iadd, 1) := dk_96 (dk_at dksL_law_21 20 rfl rfl)
theorem dL_law_645 : decode cL_law 645 = .ok (.iaload, 1) := dk_46 (dk_at dksL_law_21 21 rfl rfl)
theorem dL_law_646 : decode cL_law 646 = .ok (.aload_n 3, 1) := dk_45 (dk_at dksL_law_21 22 rfl rfl)
theorem dL_law_647 : decode cL_law 647 = .ok (.invokestatic 158, 3) := dk_184 0 158 (dk_at dksL_law_22 0 rfl rfl)
theorem dL_law_650 : decode cL_law 650 = .ok (.istore 5, 2) := dk_54 5 (dk_at dksL_law_22 3 rfl rfl)
theorem dL_law_652 : decode cL_law 652 = .ok (.aload_n 2, 1) := dk_44 (dk_at dksL_law_22 5 rfl rfl)
theorem dL_law_653 : decode cL_law 653 = .ok (.aload_n 0, 1) := dk_42 (dk_at dksL_law_22 6 rfl rfl)
theorem dL_law_654 : decode cL_law 654 = .ok (.iload 4, 2) := dk_21 4 (dk_at dksL_law_22 7 rfl rfl)
theorem dL_law_656 : decode cL_law 656 = .ok (.iconst 1, 1) := dk_4 (dk_at dksL_law_22 9 rfl rfl)
theorem dL_law_657 : decode cL_law 657 = .ok (.iadd, 1) := dk_96 (dk_at dksL_law_22 10 rfl rfl)
theorem dL_law_658 : decode cL_law 658 = .ok (.iaload, 1) := dk_46 (dk_at dksL_law_22 11 rfl rfl)
theorem dL_law_659 : decode cL_law 659 = .ok (.aload_n 0, 1) := dk_42 (dk_at dksL_law_22 12 rfl rfl)
theorem dL_law_660 : decode cL_law 660 = .ok (.iload 4, 2) := dk_21 4 (dk_at dksL_law_22 13 rfl rfl)
theorem dL_law_662 : decode cL_law 662 = .ok (.iconst 2, 1) := dk_5 (dk_at dksL_law_22 15 rfl rfl)
theorem dL_law_663 : decode cL_law 663 = .ok (.iadd, 1) := dk_96 (dk_at dksL_law_22 16 rfl rfl)
theorem dL_law_664 : decode cL_law 664 = .ok (.iaload, 1) := dk_46 (dk_at dksL_law_22 17 rfl rfl)
theorem dL_law_665 : decode cL_law 665 = .ok (.aload_n 0, 1) := dk_42 (dk_at dksL_law_22 18 rfl rfl)
theorem dL_law_666 : decode cL_law 666 = .ok (.iload 4, 2) := dk_21 4 (dk_at dksL_law_22 19 rfl rfl)
theorem dL_law_668 : decode cL_law 668 = .ok (.iconst 3, 1) := dk_6 (dk_at dksL_law_22 21 rfl rfl)
theorem dL_law_669 : decode cL_law 669 = .ok (.iadd, 1) := dk_96 (dk_at dksL_law_22 22 rfl rfl)
theorem dL_law_670 : decode cL_law 670 = .ok (.iaload, 1) := dk_46 (dk_at dksL_law_22 23 rfl rfl)
theorem dL_law_671 : decode cL_law 671 = .ok (.invokevirtual 160, 3) := dk_182 0 160 (dk_at dksL_law_23 0 rfl rfl)
theorem dL_law_674 : decode cL_law 674 = .ok (.istore 6, 2) := dk_54 6 (dk_at dksL_law_23 3 rfl rfl)
theorem dL_law_676 : decode cL_law 676 = .ok (.aload_n 2, 1) := dk_44 (dk_at dksL_law_23 5 rfl rfl)
theorem dL_law_677 : decode cL_law 677 = .ok (.invokevirtual 126, 3) := dk_182 0 126 (dk_at dksL_law_23 6 rfl rfl)
theorem dL_law_680 : decode cL_law 680 = .ok (.iload 5, 2) := dk_21 5 (dk_at dksL_law_23 9 rfl rfl)
theorem dL_law_682 : decode cL_law 682 = .ok (.if_icmp .eq 5, 3) := dk_159 0 5 (dk_at dksL_law_23 11 rfl rfl)
theorem dL_law_685 : decode cL_law 685 = .ok (.iconst 0, 1) := dk_3 (dk_at dksL_law_23 14 rfl rfl)
theorem dL_law_686 : decode cL_law 686 = .ok (.ireturn, 1) := dk_172 (dk_at dksL_law_23 15 rfl rfl)
theorem dL_law_687 : decode cL_law 687 = .ok (.iload 5, 2) := dk_21 5 (dk_at dksL_law_23 16 rfl rfl)
theorem dL_law_689 : decode cL_law 689 = .ok (.ifCond .ne 15, 3) := dk_154 0 15 (dk_at dksL_law_23 18 rfl rfl)
theorem dL_law_692 : decode cL_law 692 = .ok (.aload_n 3, 1) := dk_45 (dk_at dksL_law_23 21 rfl rfl)
theorem dL_law_693 : decode cL_law 693 = .ok (.iconst 0, 1) := dk_3 (dk_at dksL_law_23 22 rfl rfl)
theorem dL_law_694 : decode cL_law 694 = .ok (.laload, 1) := dk_47 (dk_at dksL_law_23 23 rfl rfl)
theorem dL_law_695 : decode cL_law 695 = .ok (.iload 6, 2) := dk_21 6 (dk_at dksL_law_24 0 rfl rfl)
theorem dL_law_697 : decode cL_law 697 = .ok (.i2l, 1) := dk_133 (dk_at dksL_law_24 2 rfl rfl)
theorem dL_law_698 : decode cL_law 698 = .ok (.lcmp, 1) := dk_148 (dk_at dksL_law_24 3 rfl rfl)
theorem dL_law_699 : decode cL_law 699 = .ok (.ifCond .eq 5, 3) := dk_153 0 5 (dk_at dksL_law_24 4 rfl rfl)
theorem dL_law_702 : decode cL_law 702 = .ok (.iconst 0, 1) := dk_3 (dk_at dksL_law_24 7 rfl rfl)
theorem dL_law_703 : decode cL_law 703 = .ok (.ireturn, 1) := dk_172 (dk_at dksL_law_24 8 rfl rfl)
theorem dL_law_704 : decode cL_law 704 = .ok (.goto 1544, 3) := dk_167 6 8 (dk_at dksL_law_24 9 rfl rfl)
theorem dL_law_707 : decode cL_law 707 = .ok (.aload_n 1, 1) := dk_43 (dk_at dksL_law_24 12 rfl rfl)
theorem dL_law_708 : decode cL_law 708 = .ok (.aload_n 0, 1) := dk_42 (dk_at dksL_law_24 13 rfl rfl)
theorem dL_law_709 : decode cL_law 709 = .ok (.iload 4, 2) := dk_21 4 (dk_at dksL_law_24 14 rfl rfl)
theorem dL_law_711 : decode cL_law 711 = .ok (.iconst 1, 1) := dk_4 (dk_at dksL_law_24 16 rfl rfl)
theorem dL_law_712 : decode cL_law 712 = .ok (.iadd, 1) := dk_96 (dk_at dksL_law_24 17 rfl rfl)
theorem dL_law_713 : decode cL_law 713 = .ok (.iaload, 1) := dk_46 (dk_at dksL_law_24 18 rfl rfl)
theorem dL_law_714 : decode cL_law 714 = .ok (.aload_n 0, 1) := dk_42 (dk_at dksL_law_24 19 rfl rfl)
theorem dL_law_715 : decode cL_law 715 = .ok (.iload 4, 2) := dk_21 4 (dk_at dksL_law_24 20 rfl rfl)
theorem dL_law_717 : decode cL_law 717 = .ok (.iconst 2, 1) := dk_5 (dk_at dksL_law_24 22 rfl rfl)
theorem dL_law_718 : decode cL_law 718 = .ok (.iadd, 1) := dk_96 (dk_at dksL_law_24 23 rfl rfl)
theorem dL_law_719 : decode cL_law 719 = .ok (.iaload, 1) := dk_46 (dk_at dksL_law_25 0 rfl rfl)
theorem dL_law_720 : decode cL_law 720 = .ok (.aload_n 0, 1) := dk_42 (dk_at dksL_law_25 1 rfl rfl)
theorem dL_law_721 : decode cL_law 721 = .ok (.iload 4, 2) := dk_21 4 (dk_at dksL_law_25 2 rfl rfl)
theorem dL_law_723 : decode cL_law 723 = .ok (.iconst 3, 1) := dk_6 (dk_at dksL_law_25 4 rfl rfl)
theorem dL_law_724 : decode cL_law 724 = .ok (.iadd, 1) := dk_96 (dk_at dksL_law_25 5 rfl rfl)
theorem dL_law_725 : decode cL_law 725 = .ok (.iaload, 1) := dk_46 (dk_at dksL_law_25 6 rfl rfl)
theorem dL_law_726 : decode cL_law 726 = .ok (.aload_n 3, 1) := dk_45 (dk_at dksL_law_25 7 rfl rfl)
theorem dL_law_727 : decode cL_law 727 = .ok (.invokestatic 161, 3) := dk_184 0 161 (dk_at dksL_law_25 8 rfl rfl)
theorem dL_law_730 : decode cL_law 730 = .ok (.istore 5, 2) := dk_54 5 (dk_at dksL_law_25 11 rfl rfl)
theorem dL_law_732 : decode cL_law 732 = .ok (.aload_n 2, 1) := dk_44 (dk_at dksL_law_25 13 rfl rfl)
theorem dL_law_733 : decode cL_law 733 = .ok (.aload_n 0, 1) := dk_42 (dk_at dksL_law_25 14 rfl rfl)
theorem dL_law_734 : decode cL_law 734 = .ok (.iload 4, 2) := dk_21 4 (dk_at dksL_law_25 15 rfl rfl)
theorem dL_law_736 : decode cL_law 736 = .ok (.iconst 1, 1) := dk_4 (dk_at dksL_law_25 17 rfl rfl)
theorem dL_law_737 : decode cL_law 737 = .ok (.iadd, 1) := dk_96 (dk_at dksL_law_25 18 rfl rfl)
theorem dL_law_738 : decode cL_law 738 = .ok (.iaload, 1) := dk_46 (dk_at dksL_law_25 19 rfl rfl)
theorem dL_law_739 : decode cL_law 739 = .ok (.aload_n 0, 1) := dk_42 (dk_at dksL_law_25 20 rfl rfl)
theorem dL_law_740 : decode cL_law 740 = .ok (.iload 4, 2) := dk_21 4 (dk_at dksL_law_25 21 rfl rfl)
theorem dL_law_742 : decode cL_law 742 = .ok (.iconst 2, 1) := dk_5 (dk_at dksL_law_25 23 rfl rfl)
theorem dL_law_743 : decode cL_law 743 = .ok (.iadd, 1) := dk_96 (dk_at dksL_law_26 0 rfl rfl)
theorem dL_law_744 : decode cL_law 744 = .ok (.iaload, 1) := dk_46 (dk_at dksL_law_26 1 rfl rfl)
theorem dL_law_745 : decode cL_law 745 = .ok (.aload_n 0, 1) := dk_42 (dk_at dksL_law_26 2 rfl rfl)
theorem dL_law_746 : decode cL_law 746 = .ok (.iload 4, 2) := dk_21 4 (dk_at dksL_law_26 3 rfl rfl)
theorem dL_law_748 : decode cL_law 748 = .ok (.iconst 3, 1) := dk_6 (dk_at dksL_law_26 5 rfl rfl)
theorem dL_law_749 : decode cL_law 749 = .ok (.iadd, 1) := dk_96 (dk_at dksL_law_26 6 rfl rfl)
theorem dL_law_750 : decode cL_law 750 = .ok (.iaload, 1) := dk_46 (dk_at dksL_law_26 7 rfl rfl)
theorem dL_law_751 : decode cL_law 751 = .ok (.invokevirtual 163, 3) := dk_182 0 163 (dk_at dksL_law_26 8 rfl rfl)
theorem dL_law_754 : decode cL_law 754 = .ok (.istore 6, 2) := dk_54 6 (dk_at dksL_law_26 11 rfl rfl)
theorem dL_law_756 : decode cL_law 756 = .ok (.aload_n 2, 1) := dk_44 (dk_at dksL_law_26 13 rfl rfl)
theorem dL_law_757 : decode cL_law 757 = .ok (.invokevirtual 126, 3) := dk_182 0 126 (dk_at dksL_law_26 14 rfl rfl)
theorem dL_law_760 : decode cL_law 760 = .ok (.iload 5, 2) := dk_21 5 (dk_at dksL_law_26 17 rfl rfl)
theorem dL_law_762 : decode cL_law 762 = .ok (.if_icmp .eq 5, 3) := dk_159 0 5 (dk_at dksL_law_26 19 rfl rfl)
theorem dL_law_765 : decode cL_law 765 = .ok (.iconst 0, 1) := dk_3 (dk_at dksL_law_26 22 rfl rfl)
theorem dL_law_766 : decode cL_law 766 = .ok (.ireturn, 1) := dk_172 (dk_at dksL_law_26 23 rfl rfl)
theorem dL_law_767 : decode cL_law 767 = .ok (.iload 5, 2) := dk_21 5 (dk_at dksL_law_27 0 rfl rfl)
theorem dL_law_769 : decode cL_law 769 = .ok (.ifCond .ne 15, 3) := dk_154 0 15 (dk_at dksL_law_27 2 rfl rfl)
theorem dL_law_772 : decode cL_law 772 = .ok (.aload_n 3, 1) := dk_45 (dk_at dksL_law_27 5 rfl rfl)
theorem dL_law_773 : decode cL_law 773 = .ok (.iconst 0, 1) := dk_3 (dk_at dksL_law_27 6 rfl rfl)
theorem dL_law_774 : decode cL_law 774 = .ok (.laload, 1) := dk_47 (dk_at dksL_law_27 7 rfl rfl)
theorem dL_law_775 : decode cL_law 775 = .ok (.iload 6, 2) := dk_21 6 (dk_at dksL_law_27 8 rfl rfl)
theorem dL_law_777 : decode cL_law 777 = .ok (.i2l, 1) := dk_133 (dk_at dksL_law_27 10 rfl rfl)
theorem dL_law_778 : decode cL_law 778 = .ok (.lcmp, 1) := dk_148 (dk_at dksL_law_27 11 rfl rfl)
theorem dL_law_779 : decode cL_law 779 = .ok (.ifCond .eq 5, 3) := dk_153 0 5 (dk_at dksL_law_27 12 rfl rfl)
theorem dL_law_782 : decode cL_law 782 = .ok (.iconst 0, 1) := dk_3 (dk_at dksL_law_27 15 rfl rfl)
theorem dL_law_783 : decode cL_law 783 = .ok (.ireturn, 1) := dk_172 (dk_at dksL_law_27 16 rfl rfl)
theorem dL_law_784 : decode cL_law 784 = .ok (.goto 1464, 3) := dk_167 5 184 (dk_at dksL_law_27 17 rfl rfl)
theorem dL_law_787 : decode cL_law 787 = .ok (.aload_n 1, 1) := dk_43 (dk_at dksL_law_27 20 rfl rfl)
theorem dL_law_788 : decode cL_law 788 = .ok (.aload_n 0, 1) := dk_42 (dk_at dksL_law_27 21 rfl rfl)
theorem dL_law_789 : decode cL_law 789 = .ok (.iload 4, 2) := dk_21 4 (dk_at dksL_law_27 22 rfl rfl)
theorem dL_law_791 : decode cL_law 791 = .ok (.iconst 1, 1) := dk_4 (dk_at dksL_law_28 0 rfl rfl)
theorem dL_law_792 : decode cL_law 792 = .ok (.iadd, 1) := dk_96 (dk_at dksL_law_28 1 rfl rfl)
theorem dL_law_793 : decode cL_law 793 = .ok (.iaload, 1) := dk_46 (dk_at dksL_law_28 2 rfl rfl)
theorem dL_law_794 : decode cL_law 794 = .ok (.aload_n 0, 1) := dk_42 (dk_at dksL_law_28 3 rfl rfl)
theorem dL_law_795 : decode cL_law 795 = .ok (.iload 4, 2) := dk_21 4 (dk_at dksL_law_28 4 rfl rfl)
theorem dL_law_797 : decode cL_law 797 = .ok (.iconst 2, 1) := dk_5 (dk_at dksL_law_28 6 rfl rfl)
theorem dL_law_798 : decode cL_law 798 = .ok (.iadd, 1) := dk_96 (dk_at dksL_law_28 7 rfl rfl)
theorem dL_law_799 : decode cL_law 799 = .ok (.iaload, 1) := dk_46 (dk_at dksL_law_28 8 rfl rfl)
theorem dL_law_800 : decode cL_law 800 = .ok (.aload_n 3, 1) := dk_45 (dk_at dksL_law_28 9 rfl rfl)
theorem dL_law_801 : decode cL_law 801 = .ok (.invokestatic 164, 3) := dk_184 0 164 (dk_at dksL_law_28 10 rfl rfl)
theorem dL_law_804 : decode cL_law 804 = .ok (.istore 5, 2) := dk_54 5 (dk_at dksL_law_28 13 rfl rfl)
theorem dL_law_806 : decode cL_law 806 = .ok (.aload_n 2, 1) := dk_44 (dk_at dksL_law_28 15 rfl rfl)
theorem dL_law_807 : decode cL_law 807 = .ok (.aload_n 0, 1) := dk_42 (dk_at dksL_law_28 16 rfl rfl)
theorem dL_law_808 : decode cL_law 808 = .ok (.iload 4, 2) := dk_21 4 (dk_at dksL_law_28 17 rfl rfl)
theorem dL_law_810 : decode cL_law 810 = .ok (.iconst 1, 1) := dk_4 (dk_at dksL_law_28 19 rfl rfl)
theorem dL_law_811 : decode cL_law 811 = .ok (.iadd, 1) := dk_96 (dk_at dksL_law_28 20 rfl rfl)
theorem dL_law_812 : decode cL_law 812 = .ok (.iaload, 1) := dk_46 (dk_at dksL_law_28 21 rfl rfl)
theorem dL_law_813 : decode cL_law 813 = .ok (.aload_n 0, 1) := dk_42 (dk_at dksL_law_28 22 rfl rfl)
theorem dL_law_814 : decode cL_law 814 = .ok (.iload 4, 2) := dk_21 4 (dk_at dksL_law_29 0 rfl rfl)
theorem dL_law_816 : decode cL_law 816 = .ok (.iconst 2, 1) := dk_5 (dk_at dksL_law_29 2 rfl rfl)
theorem dL_law_817 : decode cL_law 817 = .ok (.iadd, 1) := dk_96 (dk_at dksL_law_29 3 rfl rfl)
theorem dL_law_818 : decode cL_law 818 = .ok (.iaload, 1) := dk_46 (dk_at dksL_law_29 4 rfl rfl)
theorem dL_law_819 : decode cL_law 819 = .ok (.invokevirtual 166, 3) := dk_182 0 166 (dk_at dksL_law_29 5 rfl rfl)
theorem dL_law_822 : decode cL_law 822 = .ok (.istore 6, 2) := dk_54 6 (dk_at dksL_law_29 8 rfl rfl)
theorem dL_law_824 : decode cL_law 824 = .ok (.aload_n 2, 1) := dk_44 (dk_at dksL_law_29 10 rfl rfl)
theorem dL_law_825 : decode cL_law 825 = .ok (.invokevirtual 126, 3) := dk_182 0 126 (dk_at dksL_law_29 11 rfl rfl)
theorem dL_law_828 : decode cL_law 828 = .ok (.iload 5, 2) := dk_21 5 (dk_at dksL_law_29 14 rfl rfl)
theorem dL_law_830 : decode cL_law 830 = .ok (.if_icmp .eq 5, 3) := dk_159 0 5 (dk_at dksL_law_29 16 rfl rfl)
theorem dL_law_833 : decode cL_law 833 = .ok (.iconst 0, 1) := dk_3 (dk_at dksL_law_29 19 rfl rfl)
theorem dL_law_834 : decode cL_law 834 = .ok (.ireturn, 1) := dk_172 (dk_at dksL_law_29 20 rfl rfl)
theorem dL_law_835 : decode cL_law 835 = .ok (.iload 5, 2) := dk_21 5 (dk_at dksL_law_29 21 rfl rfl)
theorem dL_law_837 : decode cL_law 837 = .ok (.ifCond .ne 15, 3) := dk_154 0 15 (dk_at dksL_law_30 0 rfl rfl)
theorem dL_law_840 : decode cL_law 840 = .ok (.aload_n 3, 1) := dk_45 (dk_at dksL_law_30 3 rfl rfl)
theorem dL_law_841 : decode cL_law 841 = .ok (.iconst 0, 1) := dk_3 (dk_at dksL_law_30 4 rfl rfl)
theorem dL_law_842 : decode cL_law 842 = .ok (.laload, 1) := dk_47 (dk_at dksL_law_30 5 rfl rfl)
theorem dL_law_843 : decode cL_law 843 = .ok (.iload 6, 2) := dk_21 6 (dk_at dksL_law_30 6 rfl rfl)
theorem dL_law_845 : decode cL_law 845 = .ok (.i2l, 1) := dk_133 (dk_at dksL_law_30 8 rfl rfl)
theorem dL_law_846 : decode cL_law 846 = .ok (.lcmp, 1) := dk_148 (dk_at dksL_law_30 9 rfl rfl)
theorem dL_law_847 : decode cL_law 847 = .ok (.ifCond .eq 5, 3) := dk_153 0 5 (dk_at dksL_law_30 10 rfl rfl)
theorem dL_law_850 : decode cL_law 850 = .ok (.iconst 0, 1) := dk_3 (dk_at dksL_law_30 13 rfl rfl)
theorem dL_law_851 : decode cL_law 851 = .ok (.ireturn, 1) := dk_172 (dk_at dksL_law_30 14 rfl rfl)
theorem dL_law_852 : decode cL_law 852 = .ok (.goto 1396, 3) := dk_167 5 116 (dk_at dksL_law_30 15 rfl rfl)
theorem dL_law_855 : decode cL_law 855 = .ok (.aload_n 1, 1) := dk_43 (dk_at dksL_law_30 18 rfl rfl)
theorem dL_law_856 : decode cL_law 856 = .ok (.aload_n 0, 1) := dk_42 (dk_at dksL_law_30 19 rfl rfl)
theorem dL_law_857 : decode cL_law 857 = .ok (.iload 4, 2) := dk_21 4 (dk_at dksL_law_30 20 rfl rfl)
theorem dL_law_859 : decode cL_law 859 = .ok (.iconst 1, 1) := dk_4 (dk_at dksL_law_30 22 rfl rfl)
theorem dL_law_860 : decode cL_law 860 = .ok (.iadd, 1) := dk_96 (dk_at dksL_law_30 23 rfl rfl)
theorem dL_law_861 : decode cL_law 861 = .ok (.iaload, 1) := dk_46 (dk_at dksL_law_31 0 rfl rfl)
theorem dL_law_862 : decode cL_law 862 = .ok (.aload_n 0, 1) := dk_42 (dk_at dksL_law_31 1 rfl rfl)
theorem dL_law_863 : decode cL_law 863 = .ok (.iload 4, 2) := dk_21 4 (dk_at dksL_law_31 2 rfl rfl)
theorem dL_law_865 : decode cL_law 865 = .ok (.iconst 2, 1) := dk_5 (dk_at dksL_law_31 4 rfl rfl)
theorem dL_law_866 : decode cL_law 866 = .ok (.iadd, 1) := dk_96 (dk_at dksL_law_31 5 rfl rfl)
theorem dL_law_867 : decode cL_law 867 = .ok (.iaload, 1) := dk_46 (dk_at dksL_law_31 6 rfl rfl)
theorem dL_law_868 : decode cL_law 868 = .ok (.aload_n 3, 1) := dk_45 (dk_at dksL_law_31 7 rfl rfl)
theorem dL_law_869 : decode cL_law 869 = .ok (.invokestatic 167, 3) := dk_184 0 167 (dk_at dksL_law_31 8 rfl rfl)
theorem dL_law_872 : decode cL_law 872 = .ok (.istore 5, 2) := dk_54 5 (dk_at dksL_law_31 11 rfl rfl)
theorem dL_law_874 : decode cL_law 874 = .ok (.aload_n 2, 1) := dk_44 (dk_at dksL_law_31 13 rfl rfl)
theorem dL_law_875 : decode cL_law 875 = .ok (.aload_n 0, 1) := dk_42 (dk_at dksL_law_31 14 rfl rfl)
theorem dL_law_876 : decode cL_law 876 = .ok (.iload 4, 2) := dk_21 4 (dk_at dksL_law_31 15 rfl rfl)
theorem dL_law_878 : decode cL_law 878 = .ok (.iconst 1, 1) := dk_4 (dk_at dksL_law_31 17 rfl rfl)
theorem dL_law_879 : decode cL_law 879 = .ok (.iadd, 1) := dk_96 (dk_at dksL_law_31 18 rfl rfl)
theorem dL_law_880 : decode cL_law 880 = .ok (.iaload, 1) := dk_46 (dk_at dksL_law_31 19 rfl rfl)
theorem dL_law_881 : decode cL_law 881 = .ok (.aload_n 0, 1) := dk_42 (dk_at dksL_law_31 20 rfl rfl)
theorem dL_law_882 : decode cL_law 882 = .ok (.iload 4, 2) := dk_21 4 (dk_at dksL_law_31 21 rfl rfl)
theorem dL_law_884 : decode cL_law 884 = .ok (.iconst 2, 1) := dk_5 (dk_at dksL_law_31 23 rfl rfl)
theorem dL_law_885 : decode cL_law 885 = .ok (.iadd, 1) := dk_96 (dk_at dksL_law_32 0 rfl rfl)
theorem dL_law_886 : decode cL_law 886 = .ok (.iaload, 1) := dk_46 (dk_at dksL_law_32 1 rfl rfl)
theorem dL_law_887 : decode cL_law 887 = .ok (.invokevirtual 169, 3) := dk_182 0 169 (dk_at dksL_law_32 2 rfl rfl)
theorem dL_law_890 : decode cL_law 890 = .ok (.istore 6, 2) := dk_54 6 (dk_at dksL_law_32 5 rfl rfl)
theorem dL_law_892 : decode cL_law 892 = .ok (.aload_n 2, 1) := dk_44 (dk_at dksL_law_32 7 rfl rfl)
theorem dL_law_893 : decode cL_law 893 = .ok (.invokevirtual 126, 3) := dk_182 0 126 (dk_at dksL_law_32 8 rfl rfl)
theorem dL_law_896 : decode cL_law 896 = .ok (.iload 5, 2) := dk_21 5 (dk_at dksL_law_32 11 rfl rfl)
theorem dL_law_898 : decode cL_law 898 = .ok (.if_icmp .eq 5, 3) := dk_159 0 5 (dk_at dksL_law_32 13 rfl rfl)
theorem dL_law_901 : decode cL_law 901 = .ok (.iconst 0, 1) := dk_3 (dk_at dksL_law_32 16 rfl rfl)
theorem dL_law_902 : decode cL_law 902 = .ok (.ireturn, 1) := dk_172 (dk_at dksL_law_32 17 rfl rfl)
theorem dL_law_903 : decode cL_law 903 = .ok (.iload 5, 2) := dk_21 5 (dk_at dksL_law_32 18 rfl rfl)
theorem dL_law_905 : decode cL_law 905 = .ok (.ifCond .ne 15, 3) := dk_154 0 15 (dk_at dksL_law_32 20 rfl rfl)
theorem dL_law_908 : decode cL_law 908 = .ok (.aload_n 3, 1) := dk_45 (dk_at dksL_law_32 23 rfl rfl)
theorem dL_law_909 : decode cL_law 909 = .ok (.iconst 0, 1) := dk_3 (dk_at dksL_law_33 0 rfl rfl)
theorem dL_law_910 : decode cL_law 910 = .ok (.laload, 1) := dk_47 (dk_at dksL_law_33 1 rfl rfl)
theorem dL_law_911 : decode cL_law 911 = .ok (.iload 6, 2) := dk_21 6 (dk_at dksL_law_33 2 rfl rfl)
theorem dL_law_913 : decode cL_law 913 = .ok (.i2l, 1) := dk_133 (dk_at dksL_law_33 4 rfl rfl)
theorem dL_law_914 : decode cL_law 914 = .ok (.lcmp, 1) := dk_148 (dk_at dksL_law_33 5 rfl rfl)
theorem dL_law_915 : decode cL_law 915 = .ok (.ifCond .eq 5, 3) := dk_153 0 5 (dk_at dksL_law_33 6 rfl rfl)
theorem dL_law_918 : decode cL_law 918 = .ok (.iconst 0, 1) := dk_3 (dk_at dksL_law_33 9 rfl rfl)
theorem dL_law_919 : decode cL_law 919 = .ok (.ireturn, 1) := dk_172 (dk_at dksL_law_33 10 rfl rfl)
theorem dL_law_920 : decode cL_law 920 = .ok (.goto 1328, 3) := dk_167 5 48 (dk_at dksL_law_33 11 rfl rfl)
theorem dL_law_923 : decode cL_law 923 = .ok (.aload_n 1, 1) := dk_43 (dk_at dksL_law_33 14 rfl rfl)
theorem dL_law_924 : decode cL_law 924 = .ok (.aload_n 0, 1) := dk_42 (dk_at dksL_law_33 15 rfl rfl)
theorem dL_law_925 : decode cL_law 925 = .ok (.iload 4, 2) := dk_21 4 (dk_at dksL_law_33 16 rfl rfl)
theorem dL_law_927 : decode cL_law 927 = .ok (.iconst 1, 1) := dk_4 (dk_at dksL_law_33 18 rfl rfl)
theorem dL_law_928 : decode cL_law 928 = .ok (.iadd, 1) := dk_96 (dk_at dksL_law_33 19 rfl rfl)
theorem dL_law_929 : decode cL_law 929 = .ok (.iaload, 1) := dk_46 (dk_at dksL_law_33 20 rfl rfl)
theorem dL_law_930 : decode cL_law 930 = .ok (.aload_n 0, 1) := dk_42 (dk_at dksL_law_33 21 rfl rfl)
theorem dL_law_931 : decode cL_law 931 = .ok (.iload 4, 2) := dk_21 4 (dk_at dksL_law_33 22 rfl rfl)
theorem dL_law_933 : decode cL_law 933 = .ok (.iconst 2, 1) := dk_5 (dk_at dksL_law_34 0 rfl rfl)
theorem dL_law_934 : decode cL_law 934 = .ok (.iadd, 1) := dk_96 (dk_at dksL_law_34 1 rfl rfl)
theorem dL_law_935 : decode cL_law 935 = .ok (.iaload, 1) := dk_46 (dk_at dksL_law_34 2 rfl rfl)
theorem dL_law_936 : decode cL_law 936 = .ok (.aload_n 0, 1) := dk_42 (dk_at dksL_law_34 3 rfl rfl)
theorem dL_law_937 : decode cL_law 937 = .ok (.iload 4, 2) := dk_21 4 (dk_at dksL_law_34 4 rfl rfl)
theorem dL_law_939 : decode cL_law 939 = .ok (.iconst 3, 1) := dk_6 (dk_at dksL_law_34 6 rfl rfl)
theorem dL_law_940 : decode cL_law 940 = .ok (.iadd, 1) := dk_96 (dk_at dksL_law_34 7 rfl rfl)
theorem dL_law_941 : decode cL_law 941 = .ok (.iaload, 1) := dk_46 (dk_at dksL_law_34 8 rfl rfl)
theorem dL_law_942 : decode cL_law 942 = .ok (.ifCond .eq 7, 3) := dk_153 0 7 (dk_at dksL_law_34 9 rfl rfl)
theorem dL_law_945 : decode cL_law 945 = .ok (.iconst 1, 1) := dk_4 (dk_at dksL_law_34 12 rfl rfl)
theorem dL_law_946 : decode cL_law 946 = .ok (.goto 4, 3) := dk_167 0 4 (dk_at dksL_law_34 13 rfl rfl)
theorem dL_law_949 : decode cL_law 949 = .ok (.iconst 0, 1) := dk_3 (dk_at dksL_law_34 16 rfl rfl)
theorem dL_law_950 : decode cL_law 950 = .ok (.aload_n 3, 1) := dk_45 (dk_at dksL_law_34 17 rfl rfl)
theorem dL_law_951 : decode cL_law 951 = .ok (.invokestatic 170, 3) := dk_184 0 170 (dk_at dksL_law_34 18 rfl rfl)
theorem dL_law_954 : decode cL_law 954 = .ok (.istore 5, 2) := dk_54 5 (dk_at dksL_law_34 21 rfl rfl)
theorem dL_law_956 : decode cL_law 956 = .ok (.aload_n 2, 1) := dk_44 (dk_at dksL_law_34 23 rfl rfl)
theorem dL_law_957 : decode cL_law 957 = .ok (.aload_n 0, 1) := dk_42 (dk_at dksL_law_35 0 rfl rfl)
theorem dL_law_958 : decode cL_law 958 = .ok (.iload 4, 2) := dk_21 4 (dk_at dksL_law_35 1 rfl rfl)
theorem dL_law_960 : decode cL_law 960 = .ok (.iconst 1, 1) := dk_4 (dk_at dksL_law_35 3 rfl rfl)
theorem dL_law_961 : decode cL_law 961 = .ok (.iadd, 1) := dk_96 (dk_at dksL_law_35 4 rfl rfl)
theorem dL_law_962 : decode cL_law 962 = .ok (.iaload, 1) := dk_46 (dk_at dksL_law_35 5 rfl rfl)
theorem dL_law_963 : decode cL_law 963 = .ok (.aload_n 0, 1) := dk_42 (dk_at dksL_law_35 6 rfl rfl)
theorem dL_law_964 : decode cL_law 964 = .ok (.iload 4, 2) := dk_21 4 (dk_at dksL_law_35 7 rfl rfl)
theorem dL_law_966 : decode cL_law 966 = .ok (.iconst 2, 1) := dk_5 (dk_at dksL_law_35 9 rfl rfl)
theorem dL_law_967 : decode cL_law 967 = .ok (.iadd, 1) := dk_96 (dk_at dksL_law_35 10 rfl rfl)
theorem dL_law_968 : decode cL_law 968 = .ok (.iaload, 1) := dk_46 (dk_at dksL_law_35 11 rfl rfl)
theorem dL_law_969 : decode cL_law 969 = .ok (.aload_n 0, 1) := dk_42 (dk_at dksL_law_35 12 rfl rfl)
theorem dL_law_970 : decode cL_law 970 = .ok (.iload 4, 2) := dk_21 4 (dk_at dksL_law_35 13 rfl rfl)
theorem dL_law_972 : decode cL_law 972 = .ok (.iconst 3, 1) := dk_6 (dk_at dksL_law_35 15 rfl rfl)
theorem dL_law_973 : decode cL_law 973 = .ok (.iadd, 1) := dk_96 (dk_at dksL_law_35 16 rfl rfl)
theorem dL_law_974 : decode cL_law 974 = .ok (.iaload, 1) := dk_46 (dk_at dksL_law_35 17 rfl rfl)
theorem dL_law_975 : decode cL_law 975 = .ok (.ifCond .eq 7, 3) := dk_153 0 7 (dk_at dksL_law_35 18 rfl rfl)
theorem dL_law_978 : decode cL_law 978 = .ok (.iconst 1, 1) := dk_4 (dk_at dksL_law_35 21 rfl rfl)
theorem dL_law_979 : decode cL_law 979 = .ok (.goto 4, 3) := dk_167 0 4 (dk_at dksL_law_36 0 rfl rfl)
theorem dL_law_982 : decode cL_law 982 = .ok (.iconst 0, 1) := dk_3 (dk_at dksL_law_36 3 rfl rfl)
theorem dL_law_983 : decode cL_law 983 = .ok (.invokevirtual 173, 3) := dk_182 0 173 (dk_at dksL_law_36 4 rfl rfl)
theorem dL_law_986 : decode cL_law 986 = .ok (.istore 6, 2) := dk_54 6 (dk_at dksL_law_36 7 rfl rfl)
theorem dL_law_988 : decode cL_law 988 = .ok (.aload_n 2, 1) := dk_44 (dk_at dksL_law_36 9 rfl rfl)
theorem dL_law_989 : decode cL_law 989 = .ok (.invokevirtual 126, 3) := dk_182 0 126 (dk_at dksL_law_36 10 rfl rfl)
theorem dL_law_992 : decode cL_law 992 = .ok (.iload 5, 2) := dk_21 5 (dk_at dksL_law_36 13 rfl rfl)
theorem dL_law_994 : decode cL_law 994 = .ok (.if_icmp .eq 5, 3) := dk_159 0 5 (dk_at dksL_law_36 15 rfl rfl)
theorem dL_law_997 : decode cL_law 997 = .ok (.iconst 0, 1) := dk_3 (dk_at dksL_law_36 18 rfl rfl)
theorem dL_law_998 : decode cL_law 998 = .ok (.ireturn, 1) := dk_172 (dk_at dksL_law_36 19 rfl rfl)
theorem dL_law_999 : decode cL_law 999 = .ok (.iload 5, 2) := dk_21 5 (dk_at dksL_law_36 20 rfl rfl)
theorem dL_law_1001 : decode cL_law 1001 = .ok (.ifCond .ne 22, 3) := dk_154 0 22 (dk_at dksL_law_37 0 rfl rfl)
theorem dL_law_1004 : decode cL_law 1004 = .ok (.aload_n 3, 1) := dk_45 (dk_at dksL_law_37 3 rfl rfl)
theorem dL_law_1005 : decode cL_law 1005 = .ok (.iconst 0, 1) := dk_3 (dk_at dksL_law_37 4 rfl rfl)
theorem dL_law_1006 : decode cL_law 1006 = .ok (.laload, 1) := dk_47 (dk_at dksL_law_37 5 rfl rfl)
theorem dL_law_1007 : decode cL_law 1007 = .ok (.iload 6, 2) := dk_21 6 (dk_at dksL_law_37 6 rfl rfl)
theorem dL_law_1009 : decode cL_law 1009 = .ok (.ifCond .eq 7, 3) := dk_153 0 7 (dk_at dksL_law_37 8 rfl rfl)
theorem dL_law_1012 : decode cL_law 1012 = .ok (.lconst 1, 1) := dk_10 (dk_at dksL_law_37 11 rfl rfl)
theorem dL_law_1013 : decode cL_law 1013 = .ok (.goto 4, 3) := dk_167 0 4 (dk_at dksL_law_37 12 rfl rfl)
theorem dL_law_1016 : decode cL_law 1016 = .ok (.lconst 0, 1) := dk_9 (dk_at dksL_law_37 15 rfl rfl)
theorem dL_law_1017 : decode cL_law 1017 = .ok (.lcmp, 1) := dk_148 (dk_at dksL_law_37 16 rfl rfl)
theorem dL_law_1018 : decode cL_law 1018 = .ok (.ifCond .eq 5, 3) := dk_153 0 5 (dk_at dksL_law_37 17 rfl rfl)
theorem dL_law_1021 : decode cL_law 1021 = .ok (.iconst 0, 1) := dk_3 (dk_at dksL_law_37 20 rfl rfl)
theorem dL_law_1022 : decode cL_law 1022 = .ok (.ireturn, 1) := dk_172 (dk_at dksL_law_37 21 rfl rfl)
theorem dL_law_1023 : decode cL_law 1023 = .ok (.goto 1225, 3) := dk_167 4 201 (dk_at dksL_law_38 0 rfl rfl)
theorem dL_law_1026 : decode cL_law 1026 = .ok (.aload_n 1, 1) := dk_43 (dk_at dksL_law_38 3 rfl rfl)
theorem dL_law_1027 : decode cL_law 1027 = .ok (.aload_n 0, 1) := dk_42 (dk_at dksL_law_38 4 rfl rfl)
theorem dL_law_1028 : decode cL_law 1028 = .ok (.iload 4, 2) := dk_21 4 (dk_at dksL_law_38 5 rfl rfl)
theorem dL_law_1030 : decode cL_law 1030 = .ok (.iconst 1, 1) := dk_4 (dk_at dksL_law_38 7 rfl rfl)
theorem dL_law_1031 : decode cL_law 1031 = .ok (.iadd, 1) := dk_96 (dk_at dksL_law_38 8 rfl rfl)
theorem dL_law_1032 : decode cL_law 1032 = .ok (.iaload, 1) := dk_46 (dk_at dksL_law_38 9 rfl rfl)
theorem dL_law_1033 : decode cL_law 1033 = .ok (.aload_n 3, 1) := dk_45 (dk_at dksL_law_38 10 rfl rfl)
theorem dL_law_1034 : decode cL_law 1034 = .ok (.invokestatic 174, 3) := dk_184 0 174 (dk_at dksL_law_38 11 rfl rfl)
theorem dL_law_1037 : decode cL_law 1037 = .ok (.istore 5, 2) := dk_54 5 (dk_at dksL_law_38 14 rfl rfl)
theorem dL_law_1039 : decode cL_law 1039 = .ok (.aload_n 2, 1) := dk_44 (dk_at dksL_law_38 16 rfl rfl)
theorem dL_law_1040 : decode cL_law 1040 = .ok (.aload_n 0, 1) := dk_42 (dk_at dksL_law_38 17 rfl rfl)
theorem dL_law_1041 : decode cL_law 1041 = .ok (.iload 4, 2) := dk_21 4 (dk_at dksL_law_38 18 rfl rfl)
theorem dL_law_1043 : decode cL_law 1043 = .ok (.iconst 1, 1) := dk_4 (dk_at dksL_law_38 20 rfl rfl)
theorem dL_law_1044 : decode cL_law 1044 = .ok (.iadd, 1) := dk_96 (dk_at dksL_law_38 21 rfl rfl)
theorem dL_law_1045 : decode cL_law 1045 = .ok (.iaload, 1) := dk_46 (dk_at dksL_law_38 22 rfl rfl)
theorem dL_law_1046 : decode cL_law 1046 = .ok (.invokevirtual 176, 3) := dk_182 0 176 (dk_at dksL_law_39 0 rfl rfl)
theorem dL_law_1049 : decode cL_law 1049 = .ok (.istore 6, 2) := dk_54 6 (dk_at dksL_law_39 3 rfl rfl)
theorem dL_law_1051 : decode cL_law 1051 = .ok (.aload_n 2, 1) := dk_44 (dk_at dksL_law_39 5 rfl rfl)
theorem dL_law_1052 : decode cL_law 1052 = .ok (.invokevirtual 126, 3) := dk_182 0 126 (dk_at dksL_law_39 6 rfl rfl)
theorem dL_law_1055 : decode cL_law 1055 = .ok (.iload 5, 2) := dk_21 5 (dk_at dksL_law_39 9 rfl rfl)
theorem dL_law_1057 : decode cL_law 1057 = .ok (.if_icmp .eq 5, 3) := dk_159 0 5 (dk_at dksL_law_39 11 rfl rfl)
theorem dL_law_1060 : decode cL_law 1060 = .ok (.iconst 0, 1) := dk_3 (dk_at dksL_law_39 14 rfl rfl)
theorem dL_law_1061 : decode cL_law 1061 = .ok (.ireturn, 1) := dk_172 (dk_at dksL_law_39 15 rfl rfl)
theorem dL_law_1062 : decode cL_law 1062 = .ok (.iload 5, 2) := dk_21 5 (dk_at dksL_law_39 16 rfl rfl)
theorem dL_law_1064 : decode cL_law 1064 = .ok (.ifCond .ne 15, 3) := dk_154 0 15 (dk_at dksL_law_39 18 rfl rfl)
theorem dL_law_1067 : decode cL_law 1067 = .ok (.aload_n 3, 1) := dk_45 (dk_at dksL_law_39 21 rfl rfl)
theorem dL_law_1068 : decode cL_law 1068 = .ok (.iconst 0, 1) := dk_3 (dk_at dksL_law_39 22 rfl rfl)
theorem dL_law_1069 : decode cL_law 1069 = .ok (.laload, 1) := dk_47 (dk_at dksL_law_39 23 rfl rfl)
theorem dL_law_1070 : decode cL_law 1070 = .ok (.iload 6, 2) := dk_21 6 (dk_at dksL_law_40 0 rfl rfl)
theorem dL_law_1072 : decode cL_law 1072 = .ok (.i2l, 1) := dk_133 (dk_at dksL_law_40 2 rfl rfl)
theorem dL_law_1073 : decode cL_law 1073 = .ok (.lcmp, 1) := dk_148 (dk_at dksL_law_40 3 rfl rfl)
theorem dL_law_1074 : decode cL_law 1074 = .ok (.ifCond .eq 5, 3) := dk_153 0 5 (dk_at dksL_law_40 4 rfl rfl)
theorem dL_law_1077 : decode cL_law 1077 = .ok (.iconst 0, 1) := dk_3 (dk_at dksL_law_40 7 rfl rfl)
theorem dL_law_1078 : decode cL_law 1078 = .ok (.ireturn, 1) := dk_172 (dk_at dksL_law_40 8 rfl rfl)
theorem dL_law_1079 : decode cL_law 1079 = .ok (.goto 1169, 3) := dk_167 4 145 (dk_at dksL_law_40 9 rfl rfl)
theorem dL_law_1082 : decode cL_law 1082 = .ok (.aload_n 1, 1) := dk_43 (dk_at dksL_law_40 12 rfl rfl)
theorem dL_law_1083 : decode cL_law 1083 = .ok (.aload_n 3, 1) := dk_45 (dk_at dksL_law_40 13 rfl rfl)
theorem dL_law_1084 : decode cL_law 1084 = .ok (.invokestatic 177, 3) := dk_184 0 177 (dk_at dksL_law_40 14 rfl rfl)
theorem dL_law_1087 : decode cL_law 1087 = .ok (.istore 5, 2) := dk_54 5 (dk_at dksL_law_40 17 rfl rfl)
theorem dL_law_1089 : decode cL_law 1089 = .ok (.aload_n 2, 1) := dk_44 (dk_at dksL_law_40 19 rfl rfl)
theorem dL_law_1090 : decode cL_law 1090 = .ok (.invokevirtual 180, 3) := dk_182 0 180 (dk_at dksL_law_40 20 rfl rfl)
theorem dL_law_1093 : decode cL_law 1093 = .ok (.istore 6, 2) := dk_54 6 (dk_at dksL_law_41 0 rfl rfl)
theorem dL_law_1095 : decode cL_law 1095 = .ok (.aload_n 2, 1) := dk_44 (dk_at dksL_law_41 2 rfl rfl)
theorem dL_law_1096 : decode cL_law 1096 = .ok (.invokevirtual 126, 3) := dk_182 0 126 (dk_at dksL_law_41 3 rfl rfl)
theorem dL_law_1099 : decode cL_law 1099 = .ok (.iload 5, 2) := dk_21 5 (dk_at dksL_law_41 6 rfl rfl)
theorem dL_law_1101 : decode cL_law 1101 = .ok (.if_icmp .eq 5, 3) := dk_159 0 5 (dk_at dksL_law_41 8 rfl rfl)
theorem dL_law_1104 : decode cL_law 1104 = .ok (.iconst 0, 1) := dk_3 (dk_at dksL_law_41 11 rfl rfl)
theorem dL_law_1105 : decode cL_law 1105 = .ok (.ireturn, 1) := dk_172 (dk_at dksL_law_41 12 rfl rfl)
theorem dL_law_1106 : decode cL_law 1106 = .ok (.iload 5, 2) := dk_21 5 (dk_at dksL_law_41 13 rfl rfl)
theorem dL_law_1108 : decode cL_law 1108 = .ok (.ifCond .ne 15, 3) := dk_154 0 15 (dk_at dksL_law_41 15 rfl rfl)
theorem dL_law_1111 : decode cL_law 1111 = .ok (.aload_n 3, 1) := dk_45 (dk_at dksL_law_41 18 rfl rfl)
theorem dL_law_1112 : decode cL_law 1112 = .ok (.iconst 0, 1) := dk_3 (dk_at dksL_law_41 19 rfl rfl)
theorem dL_law_1113 : decode cL_law 1113 = .ok (.laload, 1) := dk_47 (dk_at dksL_law_41 20 rfl rfl)
theorem dL_law_1114 : decode cL_law 1114 = .ok (.iload 6, 2) := dk_21 6 (dk_at dksL_law_41 21 rfl rfl)
theorem dL_law_1116 : decode cL_law 1116 = .ok (.i2l, 1) := dk_133 (dk_at dksL_law_41 23 rfl rfl)
theorem dL_law_1117 : decode cL_law 1117 = .ok (.lcmp, 1) := dk_148 (dk_at dksL_law_42 0 rfl rfl)
theorem dL_law_1118 : decode cL_law 1118 = .ok (.ifCond .eq 5, 3) := dk_153 0 5 (dk_at dksL_law_42 1 rfl rfl)
theorem dL_law_1121 : decode cL_law 1121 = .ok (.iconst 0, 1) := dk_3 (dk_at dksL_law_42 4 rfl rfl)
theorem dL_law_1122 : decode cL_law 1122 = .ok (.ireturn, 1) := dk_172 (dk_at dksL_law_42 5 rfl rfl)
theorem dL_law_1123 : decode cL_law 1123 = .ok (.goto 1125, 3) := dk_167 4 101 (dk_at dksL_law_42 6 rfl rfl)
theorem dL_law_1126 : decode cL_law 1126 = .ok (.aload_n 1, 1) := dk_43 (dk_at dksL_law_42 9 rfl rfl)
theorem dL_law_1127 : decode cL_law 1127 = .ok (.aload_n 0, 1) := dk_42 (dk_at dksL_law_42 10 rfl rfl)
theorem dL_law_1128 : decode cL_law 1128 = .ok (.iload 4, 2) := dk_21 4 (dk_at dksL_law_42 11 rfl rfl)
theorem dL_law_1130 : decode cL_law 1130 = .ok (.iconst 1, 1) := dk_4 (dk_at dksL_law_42 13 rfl rfl)
theorem dL_law_1131 : decode cL_law 1131 = .ok (.iadd, 1) := dk_96 (dk_at dksL_law_42 14 rfl rfl)
theorem dL_law_1132 : decode cL_law 1132 = .ok (.iaload, 1) := dk_46 (dk_at dksL_law_42 15 rfl rfl)
theorem dL_law_1133 : decode cL_law 1133 = .ok (.aload_n 0, 1) := dk_42 (dk_at dksL_law_42 16 rfl rfl)
theorem dL_law_1134 : decode cL_law 1134 = .ok (.iload 4, 2) := dk_21 4 (dk_at dksL_law_42 17 rfl rfl)
theorem dL_law_1136 : decode cL_law 1136 = .ok (.iconst 2, 1) := dk_5 (dk_at dksL_law_42 19 rfl rfl)
theorem dL_law_1137 : decode cL_law 1137 = .ok (.iadd, 1) := dk_96 (dk_at dksL_law_42 20 rfl rfl)
theorem dL_law_1138 : decode cL_law 1138 = .ok (.iaload, 1) := dk_46 (dk_at dksL_law_42 21 rfl rfl)
theorem dL_law_1139 : decode cL_law 1139 = .ok (.aload_n 0, 1) := dk_42 (dk_at dksL_law_42 22 rfl rfl)
theorem dL_law_1140 : decode cL_law 1140 = .ok (.iload 4, 2) := dk_21 4 (dk_at dksL_law_43 0 rfl rfl)
theorem dL_law_1142 : decode cL_law 1142 = .ok (.iconst 3, 1) := dk_6 (dk_at dksL_law_43 2 rfl rfl)
theorem dL_law_1143 : decode cL_law 1143 = .ok (.iadd, 1) := dk_96 (dk_at dksL_law_43 3 rfl rfl)
theorem dL_law_1144 : decode cL_law 1144 = .ok (.iaload, 1) := dk_46 (dk_at dksL_law_43 4 rfl rfl)
theorem dL_law_1145 : decode cL_law 1145 = .ok (.aload_n 0, 1) := dk_42 (dk_at dksL_law_43 5 rfl rfl)
theorem dL_law_1146 : decode cL_law 1146 = .ok (.iload 4, 2) := dk_21 4 (dk_at dksL_law_43 6 rfl rfl)
theorem dL_law_1148 : decode cL_law 1148 = .ok (.iconst 4, 1) := dk_7 (dk_at dksL_law_43 8 rfl rfl)
theorem dL_law_1149 : decode cL_law 1149 = .ok (.iadd, 1) := dk_96 (dk_at dksL_law_43 9 rfl rfl)
theorem dL_law_1150 : decode cL_law 1150 = .ok (.iaload, 1) := dk_46 (dk_at dksL_law_43 10 rfl rfl)
theorem dL_law_1151 : decode cL_law 1151 = .ok (.aload_n 0, 1) := dk_42 (dk_at dksL_law_43 11 rfl rfl)
theorem dL_law_1152 : decode cL_law 1152 = .ok (.iload 4, 2) := dk_21 4 (dk_at dksL_law_43 12 rfl rfl)
theorem dL_law_1154 : decode cL_law 1154 = .ok (.iconst 5, 1) := dk_8 (dk_at dksL_law_43 14 rfl rfl)
theorem dL_law_1155 : decode cL_law 1155 = .ok (.iadd, 1) := dk_96 (dk_at dksL_law_43 15 rfl rfl)
theorem dL_law_1156 : decode cL_law 1156 = .ok (.iaload, 1) := dk_46 (dk_at dksL_law_43 16 rfl rfl)
theorem dL_law_1157 : decode cL_law 1157 = .ok (.aload_n 3, 1) := dk_45 (dk_at dksL_law_43 17 rfl rfl)
theorem dL_law_1158 : decode cL_law 1158 = .ok (.invokestatic 181, 3) := dk_184 0 181 (dk_at dksL_law_43 18 rfl rfl)
theorem dL_law_1161 : decode cL_law 1161 = .ok (.istore 5, 2) := dk_54 5 (dk_at dksL_law_43 21 rfl rfl)
theorem dL_law_1163 : decode cL_law 1163 = .ok (.aload_n 2, 1) := dk_44 (dk_at dksL_law_43 23 rfl rfl)
theorem dL_law_1164 : decode cL_law 1164 = .ok (.aload_n 0, 1) := dk_42 (dk_at dksL_law_44 0 rfl rfl)
theorem dL_law_1165 : decode cL_law 1165 = .ok (.iload 4, 2) := dk_21 4 (dk_at dksL_law_44 1 rfl rfl)
theorem dL_law_1167 : decode cL_law 1167 = .ok (.iconst 1, 1) := dk_4 (dk_at dksL_law_44 3 rfl rfl)
theorem dL_law_1168 : decode cL_law 1168 = .ok (.iadd, 1) := dk_96 (dk_at dksL_law_44 4 rfl rfl)
theorem dL_law_1169 : decode cL_law 1169 = .ok (.iaload, 1) := dk_46 (dk_at dksL_law_44 5 rfl rfl)
theorem dL_law_1170 : decode cL_law 1170 = .ok (.aload_n 0, 1) := dk_42 (dk_at dksL_law_44 6 rfl rfl)
theorem dL_law_1171 : decode cL_law 1171 = .ok (.iload 4, 2) := dk_21 4 (dk_at dksL_law_44 7 rfl rfl)
theorem dL_law_1173 : decode cL_law 1173 = .ok (.iconst 2, 1) := dk_5 (dk_at dksL_law_44 9 rfl rfl)
theorem dL_law_1174 : decode cL_law 1174 = .ok (.iadd, 1) := dk_96 (dk_at dksL_law_44 10 rfl rfl)
theorem dL_law_1175 : decode cL_law 1175 = .ok (.iaload, 1) := dk_46 (dk_at dksL_law_44 11 rfl rfl)
theorem dL_law_1176 : decode cL_law 1176 = .ok (.aload_n 0, 1) := dk_42 (dk_at dksL_law_44 12 rfl rfl)
theorem dL_law_1177 : decode cL_law 1177 = .ok (.iload 4, 2) := dk_21 4 (dk_at dksL_law_44 13 rfl rfl)
theorem dL_law_1179 : decode cL_law 1179 = .ok (.iconst 3, 1) := dk_6 (dk_at dksL_law_44 15 rfl rfl)
theorem dL_law_1180 : decode cL_law 1180 = .ok (.iadd, 1) := dk_96 (dk_at dksL_law_44 16 rfl rfl)
theorem dL_law_1181 : decode cL_law 1181 = .ok (.iaload, 1) := dk_46 (dk_at dksL_law_44 17 rfl rfl)
theorem dL_law_1182 : decode cL_law 1182 = .ok (.aload_n 0, 1) := dk_42 (dk_at dksL_law_44 18 rfl rfl)
theorem dL_law_1183 : decode cL_law 1183 = .ok (.iload 4, 2) := dk_21 4 (dk_at dksL_law_44 19 rfl rfl)
theorem dL_law_1185 : decode cL_law 1185 = .ok (.iconst 4, 1) := dk_7 (dk_at dksL_law_44 21 rfl rfl)
theorem dL_law_1186 : decode cL_law 1186 = .ok (.iadd, 1) := dk_96 (dk_at dksL_law_44 22 rfl rfl)
theorem dL_law_1187 : decode cL_law 1187 = .ok (.iaload, 1) := dk_46 (dk_at dksL_law_44 23 rfl rfl)
theorem dL_law_1188 : decode cL_law 1188 = .ok (.aload_n 0, 1) := dk_42 (dk_at dksL_law_45 0 rfl rfl)
theorem dL_law_1189 : decode cL_law 1189 = .ok (.iload 4, 2) := dk_21 4 (dk_at dksL_law_45 1 rfl rfl)
theorem dL_law_1191 : decode cL_law 1191 = .ok (.iconst 5, 1) := dk_8 (dk_at dksL_law_45 3 rfl rfl)
theorem dL_law_1192 : decode cL_law 1192 = .ok (.iadd, 1) := dk_96 (dk_at dksL_law_45 4 rfl rfl)
theorem dL_law_1193 : decode cL_law 1193 = .ok (.iaload, 1) := dk_46 (dk_at dksL_law_45 5 rfl rfl)
theorem dL_law_1194 : decode cL_law 1194 = .ok (.invokevirtual 184, 3) := dk_182 0 184 (dk_at dksL_law_45 6 rfl rfl)
theorem dL_law_1197 : decode cL_law 1197 = .ok (.istore 6, 2) := dk_54 6 (dk_at dksL_law_45 9 rfl rfl)
theorem dL_law_1199 : decode cL_law 1199 = .ok (.aload_n 2, 1) := dk_44 (dk_at dksL_law_45 11 rfl rfl)
theorem dL_law_1200 : decode cL_law 1200 = .ok (.invokevirtual 126, 3) := dk_182 0 126 (dk_at dksL_law_45 12 rfl rfl)
theorem dL_law_1203 : decode cL_law 1203 = .ok (.iload 5, 2) := dk_21 5 (dk_at dksL_law_45 15 rfl rfl)
theorem dL_law_1205 : decode cL_law 1205 = .ok (.if_icmp .eq 5, 3) := dk_159 0 5 (dk_at dksL_law_45 17 rfl rfl)
theorem dL_law_1208 : decode cL_law 1208 = .ok (.iconst 0, 1) := dk_3 (dk_at dksL_law_45 20 rfl rfl)
theorem dL_law_1209 : decode cL_law 1209 = .ok (.ireturn, 1) := dk_172 (dk_at dksL_law_45 21 rfl rfl)
theorem dL_law_1210 : decode cL_law 1210 = .ok (.iload 5, 2) := dk_21 5 (dk_at dksL_law_45 22 rfl rfl)
theorem dL_law_1212 : decode cL_law 1212 = .ok (.ifCond .ne 15, 3) := dk_154 0 15 (dk_at dksL_law_46 0 rfl rfl)
theorem dL_law_1215 : decode cL_law 1215 = .ok (.aload_n 3, 1) := dk_45 (dk_at dksL_law_46 3 rfl rfl)
theorem dL_law_1216 : decode cL_law 1216 = .ok (.iconst 0, 1) := dk_3 (dk_at dksL_law_46 4 rfl rfl)
theorem dL_law_1217 : decode cL_law 1217 = .ok (.laload, 1) := dk_47 (dk_at dksL_law_46 5 rfl rfl)
theorem dL_law_1218 : decode cL_law 1218 = .ok (.iload 6, 2) := dk_21 6 (dk_at dksL_law_46 6 rfl rfl)
theorem dL_law_1220 : decode cL_law 1220 = .ok (.i2l, 1) := dk_133 (dk_at dksL_law_46 8 rfl rfl)
theorem dL_law_1221 : decode cL_law 1221 = .ok (.lcmp, 1) := dk_148 (dk_at dksL_law_46 9 rfl rfl)
theorem dL_law_1222 : decode cL_law 1222 = .ok (.ifCond .eq 5, 3) := dk_153 0 5 (dk_at dksL_law_46 10 rfl rfl)
theorem dL_law_1225 : decode cL_law 1225 = .ok (.iconst 0, 1) := dk_3 (dk_at dksL_law_46 13 rfl rfl)
theorem dL_law_1226 : decode cL_law 1226 = .ok (.ireturn, 1) := dk_172 (dk_at dksL_law_46 14 rfl rfl)
theorem dL_law_1227 : decode cL_law 1227 = .ok (.goto 1021, 3) := dk_167 3 253 (dk_at dksL_law_46 15 rfl rfl)
theorem dL_law_1230 : decode cL_law 1230 = .ok (.aload_n 1, 1) := dk_43 (dk_at dksL_law_46 18 rfl rfl)
theorem dL_law_1231 : decode cL_law 1231 = .ok (.aload_n 0, 1) := dk_42 (dk_at dksL_law_46 19 rfl rfl)
theorem dL_law_1232 : decode cL_law 1232 = .ok (.iload 4, 2) := dk_21 4 (dk_at dksL_law_46 20 rfl rfl)
theorem dL_law_1234 : decode cL_law 1234 = .ok (.iconst 1, 1) := dk_4 (dk_at dksL_law_46 22 rfl rfl)
theorem dL_law_1235 : decode cL_law 1235 = .ok (.iadd, 1) := dk_96 (dk_at dksL_law_46 23 rfl rfl)
theorem dL_law_1236 : decode cL_law 1236 = .ok (.iaload, 1) := dk_46 (dk_at dksL_law_47 0 rfl rfl)
theorem dL_law_1237 : decode cL_law 1237 = .ok (.aload_n 0, 1) := dk_42 (dk_at dksL_law_47 1 rfl rfl)
theorem dL_law_1238 : decode cL_law 1238 = .ok (.iload 4, 2) := dk_21 4 (dk_at dksL_law_47 2 rfl rfl)
theorem dL_law_1240 : decode cL_law 1240 = .ok (.iconst 2, 1) := dk_5 (dk_at dksL_law_47 4 rfl rfl)
theorem dL_law_1241 : decode cL_law 1241 = .ok (.iadd, 1) := dk_96 (dk_at dksL_law_47 5 rfl rfl)
theorem dL_law_1242 : decode cL_law 1242 = .ok (.iaload, 1) := dk_46 (dk_at dksL_law_47 6 rfl rfl)
theorem dL_law_1243 : decode cL_law 1243 = .ok (.aload_n 3, 1) := dk_45 (dk_at dksL_law_47 7 rfl rfl)
theorem dL_law_1244 : decode cL_law 1244 = .ok (.invokestatic 185, 3) := dk_184 0 185 (dk_at dksL_law_47 8 rfl rfl)
theorem dL_law_1247 : decode cL_law 1247 = .ok (.istore 5, 2) := dk_54 5 (dk_at dksL_law_47 11 rfl rfl)
theorem dL_law_1249 : decode cL_law 1249 = .ok (.aload_n 2, 1) := dk_44 (dk_at dksL_law_47 13 rfl rfl)
theorem dL_law_1250 : decode cL_law 1250 = .ok (.aload_n 0, 1) := dk_42 (dk_at dksL_law_47 14 rfl rfl)
theorem dL_law_1251 : decode cL_law 1251 = .ok (.iload 4, 2) := dk_21 4 (dk_at dksL_law_47 15 rfl rfl)
theorem dL_law_1253 : decode cL_law 1253 = .ok (.iconst 1, 1) := dk_4 (dk_at dksL_law_47 17 rfl rfl)
theorem dL_law_1254 : decode cL_law 1254 = .ok (.iadd, 1) := dk_96 (dk_at dksL_law_47 18 rfl rfl)
theorem dL_law_1255 : decode cL_law 1255 = .ok (.iaload, 1) := dk_46 (dk_at dksL_law_47 19 rfl rfl)
theorem dL_law_1256 : decode cL_law 1256 = .ok (.aload_n 0, 1) := dk_42 (dk_at dksL_law_47 20 rfl rfl)
theorem dL_law_1257 : decode cL_law 1257 = .ok (.iload 4, 2) := dk_21 4 (dk_at dksL_law_47 21 rfl rfl)
theorem dL_law_1259 : decode cL_law 1259 = .ok (.iconst 2, 1) := dk_5 (dk_at dksL_law_47 23 rfl rfl)
theorem dL_law_1260 : decode cL_law 1260 = .ok (.iadd, 1) := dk_96 (dk_at dksL_law_48 0 rfl rfl)
theorem dL_law_1261 : decode cL_law 1261 = .ok (.iaload, 1) := dk_46 (dk_at dksL_law_48 1 rfl rfl)
theorem dL_law_1262 : decode cL_law 1262 = .ok (.invokevirtual 187, 3) := dk_182 0 187 (dk_at dksL_law_48 2 rfl rfl)
theorem dL_law_1265 : decode cL_law 1265 = .ok (.istore 6, 2) := dk_54 6 (dk_at dksL_law_48 5 rfl rfl)
theorem dL_law_1267 : decode cL_law 1267 = .ok (.aload_n 2, 1) := dk_44 (dk_at dksL_law_48 7 rfl rfl)
theorem dL_law_1268 : decode cL_law 1268 = .ok (.invokevirtual 126, 3) := dk_182 0 126 (dk_at dksL_law_48 8 rfl rfl)
theorem dL_law_1271 : decode cL_law 1271 = .ok (.iload 5, 2) := dk_21 5 (dk_at dksL_law_48 11 rfl rfl)
theorem dL_law_1273 : decode cL_law 1273 = .ok (.if_icmp .eq 5, 3) := dk_159 0 5 (dk_at dksL_law_48 13 rfl rfl)
theorem dL_law_1276 : decode cL_law 1276 = .ok (.iconst 0, 1) := dk_3 (dk_at dksL_law_48 16 rfl rfl)
theorem dL_law_1277 : decode cL_law 1277 = .ok (.ireturn, 1) := dk_172 (dk_at dksL_law_48 17 rfl rfl)
theorem dL_law_1278 : decode cL_law 1278 = .ok (.iload 5, 2) := dk_21 5 (dk_at dksL_law_48 18 rfl rfl)
theorem dL_law_1280 : decode cL_law 1280 = .ok (.ifCond .ne 15, 3) := dk_154 0 15 (dk_at dksL_law_48 20 rfl rfl)
theorem dL_law_1283 : decode cL_law 1283 = .ok (.aload_n 3, 1) := dk_45 (dk_at dksL_law_48 23 rfl rfl)
theorem dL_law_1284 : decode cL_law 1284 = .ok (.iconst 0, 1) := dk_3 (dk_at dksL_law_49 0 rfl rfl)
theorem dL_law_1285 : decode cL_law 1285 = .ok (.laload, 1) := dk_47 (dk_at dksL_law_49 1 rfl rfl)
theorem dL_law_1286 : decode cL_law 1286 = .ok (.iload 6, 2) := dk_21 6 (dk_at dksL_law_49 2 rfl rfl)
theorem dL_law_1288 : decode cL_law 1288 = .ok (.i2l, 1) := dk_133 (dk_at dksL_law_49 4 rfl rfl)
theorem dL_law_1289 : decode cL_law 1289 = .ok (.lcmp, 1) := dk_148 (dk_at dksL_law_49 5 rfl rfl)
theorem dL_law_1290 : decode cL_law 1290 = .ok (.ifCond .eq 5, 3) := dk_153 0 5 (dk_at dksL_law_49 6 rfl rfl)
theorem dL_law_1293 : decode cL_law 1293 = .ok (.iconst 0, 1) := dk_3 (dk_at dksL_law_49 9 rfl rfl)
theorem dL_law_1294 : decode cL_law 1294 = .ok (.ireturn, 1) := dk_172 (dk_at dksL_law_49 10 rfl rfl)
theorem dL_law_1295 : decode cL_law 1295 = .ok (.goto 953, 3) := dk_167 3 185 (dk_at dksL_law_49 11 rfl rfl)
theorem dL_law_1298 : decode cL_law 1298 = .ok (.aload_n 1, 1) := dk_43 (dk_at dksL_law_49 14 rfl rfl)
theorem dL_law_1299 : decode cL_law 1299 = .ok (.aload_n 3, 1) := dk_45 (dk_at dksL_law_49 15 rfl rfl)
theorem dL_law_1300 : decode cL_law 1300 = .ok (.invokestatic 188, 3) := dk_184 0 188 (dk_at dksL_law_49 16 rfl rfl)
theorem dL_law_1303 : decode cL_law 1303 = .ok (.istore 5, 2) := dk_54 5 (dk_at dksL_law_49 19 rfl rfl)
theorem dL_law_1305 : decode cL_law 1305 = .ok (.aload_n 2, 1) := dk_44 (dk_at dksL_law_49 21 rfl rfl)
theorem dL_law_1306 : decode cL_law 1306 = .ok (.invokevirtual 190, 3) := dk_182 0 190 (dk_at dksL_law_50 0 rfl rfl)
theorem dL_law_1309 : decode cL_law 1309 = .ok (.istore 6, 2) := dk_54 6 (dk_at dksL_law_50 3 rfl rfl)
theorem dL_law_1311 : decode cL_law 1311 = .ok (.aload_n 2, 1) := dk_44 (dk_at dksL_law_50 5 rfl rfl)
theorem dL_law_1312 : decode cL_law 1312 = .ok (.invokevirtual 126, 3) := dk_182 0 126 (dk_at dksL_law_50 6 rfl rfl)
theorem dL_law_1315 : decode cL_law 1315 = .ok (.iload 5, 2) := dk_21 5 (dk_at dksL_law_50 9 rfl rfl)
theorem dL_law_1317 : decode cL_law 1317 = .ok (.if_icmp .eq 5, 3) := dk_159 0 5 (dk_at dksL_law_50 11 rfl rfl)
theorem dL_law_1320 : decode cL_law 1320 = .ok (.iconst 0, 1) := dk_3 (dk_at dksL_law_50 14 rfl rfl)
theorem dL_law_1321 : decode cL_law 1321 = .ok (.ireturn, 1) := dk_172 (dk_at dksL_law_50 15 rfl rfl)
theorem dL_law_1322 : decode cL_law 1322 = .ok (.iload 5, 2) := dk_21 5 (dk_at dksL_law_50 16 rfl rfl)
theorem dL_law_1324 : decode cL_law 1324 = .ok (.ifCond .ne 15, 3) := dk_154 0 15 (dk_at dksL_law_50 18 rfl rfl)
theorem dL_law_1327 : decode cL_law 1327 = .ok (.aload_n 3, 1) := dk_45 (dk_at dksL_law_50 21 rfl rfl)
theorem dL_law_1328 : decode cL_law 1328 = .ok (.iconst 0, 1) := dk_3 (dk_at dksL_law_50 22 rfl rfl)
theorem dL_law_1329 : decode cL_law 1329 = .ok (.laload, 1) := dk_47 (dk_at dksL_law_50 23 rfl rfl)
theorem dL_law_1330 : decode cL_law 1330 = .ok (.iload 6, 2) := dk_21 6 (dk_at dksL_law_51 0 rfl rfl)
theorem dL_law_1332 : decode cL_law 1332 = .ok (.i2l, 1) := dk_133 (dk_at dksL_law_51 2 rfl rfl)
theorem dL_law_1333 : decode cL_law 1333 = .ok (.lcmp, 1) := dk_148 (dk_at dksL_law_51 3 rfl rfl)
theorem dL_law_1334 : decode cL_law 1334 = .ok (.ifCond .eq 5, 3) := dk_153 0 5 (dk_at dksL_law_51 4 rfl rfl)
theorem dL_law_1337 : decode cL_law 1337 = .ok (.iconst 0, 1) := dk_3 (dk_at dksL_law_51 7 rfl rfl)
theorem dL_law_1338 : decode cL_law 1338 = .ok (.ireturn, 1) := dk_172 (dk_at dksL_law_51 8 rfl rfl)
theorem dL_law_1339 : decode cL_law 1339 = .ok (.goto 909, 3) := dk_167 3 141 (dk_at dksL_law_51 9 rfl rfl)
theorem dL_law_1342 : decode cL_law 1342 = .ok (.aload_n 1, 1) := dk_43 (dk_at dksL_law_51 12 rfl rfl)
theorem dL_law_1343 : decode cL_law 1343 = .ok (.aload_n 0, 1) := dk_42 (dk_at dksL_law_51 13 rfl rfl)
theorem dL_law_1344 : decode cL_law 1344 = .ok (.iload 4, 2) := dk_21 4 (dk_at dksL_law_51 14 rfl rfl)
theorem dL_law_1346 : decode cL_law 1346 = .ok (.iconst 1, 1) := dk_4 (dk_at dksL_law_51 16 rfl rfl)
theorem dL_law_1347 : decode cL_law 1347 = .ok (.iadd, 1) := dk_96 (dk_at dksL_law_51 17 rfl rfl)
theorem dL_law_1348 : decode cL_law 1348 = .ok (.iaload, 1) := dk_46 (dk_at dksL_law_51 18 rfl rfl)
theorem dL_law_1349 : decode cL_law 1349 = .ok (.aload_n 0, 1) := dk_42 (dk_at dksL_law_51 19 rfl rfl)
theorem dL_law_1350 : decode cL_law 1350 = .ok (.iload 4, 2) := dk_21 4 (dk_at dksL_law_51 20 rfl rfl)
theorem dL_law_1352 : decode cL_law 1352 = .ok (.iconst 2, 1) := dk_5 (dk_at dksL_law_51 22 rfl rfl)
theorem dL_law_1353 : decode cL_law 1353 = .ok (.iadd, 1) := dk_96 (dk_at dksL_law_51 23 rfl rfl)
theorem dL_law_1354 : decode cL_law 1354 = .ok (.iaload, 1) := dk_46 (dk_at dksL_law_52 0 rfl rfl)
theorem dL_law_1355 : decode cL_law 1355 = .ok (.aload_n 3, 1) := dk_45 (dk_at dksL_law_52 1 rfl rfl)
theorem dL_law_1356 : decode cL_law 1356 = .ok (.invokestatic 191, 3) := dk_184 0 191 (dk_at dksL_law_52 2 rfl rfl)
theorem dL_law_1359 : decode cL_law 1359 = .ok (.istore 5, 2) := dk_54 5 (dk_at dksL_law_52 5 rfl rfl)
theorem dL_law_1361 : decode cL_law 1361 = .ok (.aload_n 2, 1) := dk_44 (dk_at dksL_law_52 7 rfl rfl)
theorem dL_law_1362 : decode cL_law 1362 = .ok (.aload_n 0, 1) := dk_42 (dk_at dksL_law_52 8 rfl rfl)
theorem dL_law_1363 : decode cL_law 1363 = .ok (.iload 4, 2) := dk_21 4 (dk_at dksL_law_52 9 rfl rfl)
theorem dL_law_1365 : decode cL_law 1365 = .ok (.iconst 1, 1) := dk_4 (dk_at dksL_law_52 11 rfl rfl)
theorem dL_law_1366 : decode cL_law 1366 = .ok (.iadd, 1) := dk_96 (dk_at dksL_law_52 12 rfl rfl)
theorem dL_law_1367 : decode cL_law 1367 = .ok (.iaload, 1) := dk_46 (dk_at dksL_law_52 13 rfl rfl)
theorem dL_law_1368 : decode cL_law 1368 = .ok (.aload_n 0, 1) := dk_42 (dk_at dksL_law_52 14 rfl rfl)
theorem dL_law_1369 : decode cL_law 1369 = .ok (.iload 4, 2) := dk_21 4 (dk_at dksL_law_52 15 rfl rfl)
theorem dL_law_1371 : decode cL_law 1371 = .ok (.iconst 2, 1) := dk_5 (dk_at dksL_law_52 17 rfl rfl)
theorem dL_law_1372 : decode cL_law 1372 = .ok (.iadd, 1) := dk_96 (dk_at dksL_law_52 18 rfl rfl)
theorem dL_law_1373 : decode cL_law 1373 = .ok (.iaload, 1) := dk_46 (dk_at dksL_law_52 19 rfl rfl)
theorem dL_law_1374 : decode cL_law 1374 = .ok (.invokevirtual 193, 3) := dk_182 0 193 (dk_at dksL_law_52 20 rfl rfl)
theorem dL_law_1377 : decode cL_law 1377 = .ok (.istore 6, 2) := dk_54 6 (dk_at dksL_law_53 0 rfl rfl)
theorem dL_law_1379 : decode cL_law 1379 = .ok (.aload_n 2, 1) := dk_44 (dk_at dksL_law_53 2 rfl rfl)
theorem dL_law_1380 : decode cL_law 1380 = .ok (.invokevirtual 126, 3) := dk_182 0 126 (dk_at dksL_law_53 3 rfl rfl)
theorem dL_law_1383 : decode cL_law 1383 = .ok (.iload 5, 2) := dk_21 5 (dk_at dksL_law_53 6 rfl rfl)
theorem dL_law_1385 : decode cL_law 1385 = .ok (.if_icmp .eq 5, 3) := dk_159 0 5 (dk_at dksL_law_53 8 rfl rfl)
theorem dL_law_1388 : decode cL_law 1388 = .ok (.iconst 0, 1) := dk_3 (dk_at dksL_law_53 11 rfl rfl)
theorem dL_law_1389 : decode cL_law 1389 = .ok (.ireturn, 1) := dk_172 (dk_at dksL_law_53 12 rfl rfl)
theorem dL_law_1390 : decode cL_law 1390 = .ok (.iload 5, 2) := dk_21 5 (dk_at dksL_law_53 13 rfl rfl)
theorem dL_law_1392 : decode cL_law 1392 = .ok (.ifCond .ne 15, 3) := dk_154 0 15 (dk_at dksL_law_53 15 rfl rfl)
theorem dL_law_1395 : decode cL_law 1395 = .ok (.aload_n 3, 1) := dk_45 (dk_at dksL_law_53 18 rfl rfl)
theorem dL_law_1396 : decode cL_law 1396 = .ok (.iconst 0, 1) := dk_3 (dk_at dksL_law_53 19 rfl rfl)
theorem dL_law_1397 : decode cL_law 1397 = .ok (.laload, 1) := dk_47 (dk_at dksL_law_53 20 rfl rfl)
theorem dL_law_1398 : decode cL_law 1398 = .ok (.iload 6, 2) := dk_21 6 (dk_at dksL_law_53 21 rfl rfl)
theorem dL_law_1400 : decode cL_law 1400 = .ok (.i2l, 1) := dk_133 (dk_at dksL_law_53 23 rfl rfl)
theorem dL_law_1401 : decode cL_law 1401 = .ok (.lcmp, 1) := dk_148 (dk_at dksL_law_54 0 rfl rfl)
theorem dL_law_1402 : decode cL_law 1402 = .ok (.ifCond .eq 5, 3) := dk_153 0 5 (dk_at dksL_law_54 1 rfl rfl)
theorem dL_law_1405 : decode cL_law 1405 = .ok (.iconst 0, 1) := dk_3 (dk_at dksL_law_54 4 rfl rfl)
theorem dL_law_1406 : decode cL_law 1406 = .ok (.ireturn, 1) := dk_172 (dk_at dksL_law_54 5 rfl rfl)
theorem dL_law_1407 : decode cL_law 1407 = .ok (.goto 841, 3) := dk_167 3 73 (dk_at dksL_law_54 6 rfl rfl)
theorem dL_law_1410 : decode cL_law 1410 = .ok (.aload_n 1, 1) := dk_43 (dk_at dksL_law_54 9 rfl rfl)
theorem dL_law_1411 : decode cL_law 1411 = .ok (.aload_n 0, 1) := dk_42 (dk_at dksL_law_54 10 rfl rfl)
theorem dL_law_1412 : decode cL_law 1412 = .ok (.iload 4, 2) := dk_21 4 (dk_at dksL_law_54 11 rfl rfl)
theorem dL_law_1414 : decode cL_law 1414 = .ok (.iconst 1, 1) := dk_4 (dk_at dksL_law_54 13 rfl rfl)
theorem dL_law_1415 : decode cL_law 1415 = .ok (.iadd, 1) := dk_96 (dk_at dksL_law_54 14 rfl rfl)
theorem dL_law_1416 : decode cL_law 1416 = .ok (.iaload, 1) := dk_46 (dk_at dksL_law_54 15 rfl rfl)
theorem dL_law_1417 : decode cL_law 1417 = .ok (.aload_n 3, 1) := dk_45 (dk_at dksL_law_54 16 rfl rfl)
theorem dL_law_1418 : decode cL_law 1418 = .ok (.invokestatic 194, 3) := dk_184 0 194 (dk_at dksL_law_54 17 rfl rfl)
theorem dL_law_1421 : decode cL_law 1421 = .ok (.istore 5, 2) := dk_54 5 (dk_at dksL_law_54 20 rfl rfl)
theorem dL_law_1423 : decode cL_law 1423 = .ok (.aload_n 2, 1) := dk_44 (dk_at dksL_law_54 22 rfl rfl)
theorem dL_law_1424 : decode cL_law 1424 = .ok (.aload_n 0, 1) := dk_42 (dk_at dksL_law_54 23 rfl rfl)
theorem dL_law_1425 : decode cL_law 1425 = .ok (.iload 4, 2) := dk_21 4 (dk_at dksL_law_55 0 rfl rfl)
theorem dL_law_1427 : decode cL_law 1427 = .ok (.iconst 1, 1) := dk_4 (dk_at dksL_law_55 2 rfl rfl)
theorem dL_law_1428 : decode cL_law 1428 = .ok (.iadd, 1) := dk_96 (dk_at dksL_law_55 3 rfl rfl)
theorem dL_law_1429 : decode cL_law 1429 = .ok (.iaload, 1) := dk_46 (dk_at dksL_law_55 4 rfl rfl)
theorem dL_law_1430 : decode cL_law 1430 = .ok (.invokevirtual 196, 3) := dk_182 0 196 (dk_at dksL_law_55 5 rfl rfl)
theorem dL_law_1433 : decode cL_law 1433 = .ok (.istore 6, 2) := dk_54 6 (dk_at dksL_law_55 8 rfl rfl)
theorem dL_law_1435 : decode cL_law 1435 = .ok (.aload_n 2, 1) := dk_44 (dk_at dksL_law_55 10 rfl rfl)
theorem dL_law_1436 : decode cL_law 1436 = .ok (.invokevirtual 126, 3) := dk_182 0 126 (dk_at dksL_law_55 11 rfl rfl)
theorem dL_law_1439 : decode cL_law 1439 = .ok (.iload 5, 2) := dk_21 5 (dk_at dksL_law_55 14 rfl rfl)
theorem dL_law_1441 : decode cL_law 1441 = .ok (.if_icmp .eq 5, 3) := dk_159 0 5 (dk_at dksL_law_55 16 rfl rfl)
theorem dL_law_1444 : decode cL_law 1444 = .ok (.iconst 0, 1) := dk_3 (dk_at dksL_law_55 19 rfl rfl)
theorem dL_law_1445 : decode cL_law 1445 = .ok (.ireturn, 1) := dk_172 (dk_at dksL_law_55 20 rfl rfl)
theorem dL_law_1446 : decode cL_law 1446 = .ok (.iload 5, 2) := dk_21 5 (dk_at dksL_law_55 21 rfl rfl)
theorem dL_law_1448 : decode cL_law 1448 = .ok (.ifCond .ne 15, 3) := dk_154 0 15 (dk_at dksL_law_56 0 rfl rfl)
theorem dL_law_1451 : decode cL_law 1451 = .ok (.aload_n 3, 1) := dk_45 (dk_at dksL_law_56 3 rfl rfl)
theorem dL_law_1452 : decode cL_law 1452 = .ok (.iconst 0, 1) := dk_3 (dk_at dksL_law_56 4 rfl rfl)
theorem dL_law_1453 : decode cL_law 1453 = .ok (.laload, 1) := dk_47 (dk_at dksL_law_56 5 rfl rfl)
theorem dL_law_1454 : decode cL_law 1454 = .ok (.iload 6, 2) := dk_21 6 (dk_at dksL_law_56 6 rfl rfl)
theorem dL_law_1456 : decode cL_law 1456 = .ok (.i2l, 1) := dk_133 (dk_at dksL_law_56 8 rfl rfl)
theorem dL_law_1457 : decode cL_law 1457 = .ok (.lcmp, 1) := dk_148 (dk_at dksL_law_56 9 rfl rfl)
theorem dL_law_1458 : decode cL_law 1458 = .ok (.ifCond .eq 5, 3) := dk_153 0 5 (dk_at dksL_law_56 10 rfl rfl)
theorem dL_law_1461 : decode cL_law 1461 = .ok (.iconst 0, 1) := dk_3 (dk_at dksL_law_56 13 rfl rfl)
theorem dL_law_1462 : decode cL_law 1462 = .ok (.ireturn, 1) := dk_172 (dk_at dksL_law_56 14 rfl rfl)
theorem dL_law_1463 : decode cL_law 1463 = .ok (.goto 785, 3) := dk_167 3 17 (dk_at dksL_law_56 15 rfl rfl)
theorem dL_law_1466 : decode cL_law 1466 = .ok (.aload_n 1, 1) := dk_43 (dk_at dksL_law_56 18 rfl rfl)
theorem dL_law_1467 : decode cL_law 1467 = .ok (.aload_n 0, 1) := dk_42 (dk_at dksL_law_56 19 rfl rfl)
theorem dL_law_1468 : decode cL_law 1468 = .ok (.iload 4, 2) := dk_21 4 (dk_at dksL_law_56 20 rfl rfl)
theorem dL_law_1470 : decode cL_law 1470 = .ok (.iconst 1, 1) := dk_4 (dk_at dksL_law_56 22 rfl rfl)
theorem dL_law_1471 : decode cL_law 1471 = .ok (.iadd, 1) := dk_96 (dk_at dksL_law_56 23 rfl rfl)
theorem dL_law_1472 : decode cL_law 1472 = .ok (.iaload, 1) := dk_46 (dk_at dksL_law_57 0 rfl rfl)
theorem dL_law_1473 : decode cL_law 1473 = .ok (.aload_n 0, 1) := dk_42 (dk_at dksL_law_57 1 rfl rfl)
theorem dL_law_1474 : decode cL_law 1474 = .ok (.iload 4, 2) := dk_21 4 (dk_at dksL_law_57 2 rfl rfl)
theorem dL_law_1476 : decode cL_law 1476 = .ok (.iconst 2, 1) := dk_5 (dk_at dksL_law_57 4 rfl rfl)
theorem dL_law_1477 : decode cL_law 1477 = .ok (.iadd, 1) := dk_96 (dk_at dksL_law_57 5 rfl rfl)
theorem dL_law_1478 : decode cL_law 1478 = .ok (.iaload, 1) := dk_46 (dk_at dksL_law_57 6 rfl rfl)
theorem dL_law_1479 : decode cL_law 1479 = .ok (.aload_n 3, 1) := dk_45 (dk_at dksL_law_57 7 rfl rfl)
theorem dL_law_1480 : decode cL_law 1480 = .ok (.invokestatic 197, 3) := dk_184 0 197 (dk_at dksL_law_57 8 rfl rfl)
theorem dL_law_1483 : decode cL_law 1483 = .ok (.istore 5, 2) := dk_54 5 (dk_at dksL_law_57 11 rfl rfl)
theorem dL_law_1485 : decode cL_law 1485 = .ok (.aload_n 2, 1) := dk_44 (dk_at dksL_law_57 13 rfl rfl)
theorem dL_law_1486 : decode cL_law 1486 = .ok (.aload_n 0, 1) := dk_42 (dk_at dksL_law_57 14 rfl rfl)
theorem dL_law_1487 : decode cL_law 1487 = .ok (.iload 4, 2) := dk_21 4 (dk_at dksL_law_57 15 rfl rfl)
theorem dL_law_1489 : decode cL_law 1489 = .ok (.iconst 1, 1) := dk_4 (dk_at dksL_law_57 17 rfl rfl)
theorem dL_law_1490 : decode cL_law 1490 = .ok (.iadd, 1) := dk_96 (dk_at dksL_law_57 18 rfl rfl)
theorem dL_law_1491 : decode cL_law 1491 = .ok (.iaload, 1) := dk_46 (dk_at dksL_law_57 19 rfl rfl)
theorem dL_law_1492 : decode cL_law 1492 = .ok (.aload_n 0, 1) := dk_42 (dk_at dksL_law_57 20 rfl rfl)
theorem dL_law_1493 : decode cL_law 1493 = .ok (.iload 4, 2) := dk_21 4 (dk_at dksL_law_57 21 rfl rfl)
theorem dL_law_1495 : decode cL_law 1495 = .ok (.iconst 2, 1) := dk_5 (dk_at dksL_law_57 23 rfl rfl)
theorem dL_law_1496 : decode cL_law 1496 = .ok (.iadd, 1) := dk_96 (dk_at dksL_law_58 0 rfl rfl)
theorem dL_law_1497 : decode cL_law 1497 = .ok (.iaload, 1) := dk_46 (dk_at dksL_law_58 1 rfl rfl)
theorem dL_law_1498 : decode cL_law 1498 = .ok (.invokevirtual 199, 3) := dk_182 0 199 (dk_at dksL_law_58 2 rfl rfl)
theorem dL_law_1501 : decode cL_law 1501 = .ok (.istore 6, 2) := dk_54 6 (dk_at dksL_law_58 5 rfl rfl)
theorem dL_law_1503 : decode cL_law 1503 = .ok (.aload_n 2, 1) := dk_44 (dk_at dksL_law_58 7 rfl rfl)
theorem dL_law_1504 : decode cL_law 1504 = .ok (.invokevirtual 126, 3) := dk_182 0 126 (dk_at dksL_law_58 8 rfl rfl)
theorem dL_law_1507 : decode cL_law 1507 = .ok (.iload 5, 2) := dk_21 5 (dk_at dksL_law_58 11 rfl rfl)
theorem dL_law_1509 : decode cL_law 1509 = .ok (.if_icmp .eq 5, 3) := dk_159 0 5 (dk_at dksL_law_58 13 rfl rfl)
theorem dL_law_1512 : decode cL_law 1512 = .ok (.iconst 0, 1) := dk_3 (dk_at dksL_law_58 16 rfl rfl)
theorem dL_law_1513 : decode cL_law 1513 = .ok (.ireturn, 1) := dk_172 (dk_at dksL_law_58 17 rfl rfl)
theorem dL_law_1514 : decode cL_law 1514 = .ok (.iload 5, 2) := dk_21 5 (dk_at dksL_law_58 18 rfl rfl)
theorem dL_law_1516 : decode cL_law 1516 = .ok (.ifCond .ne 15, 3) := dk_154 0 15 (dk_at dksL_law_58 20 rfl rfl)
theorem dL_law_1519 : decode cL_law 1519 = .ok (.aload_n 3, 1) := dk_45 (dk_at dksL_law_58 23 rfl rfl)
theorem dL_law_1520 : decode cL_law 1520 = .ok (.iconst 0, 1) := dk_3 (dk_at dksL_law_59 0 rfl rfl)
theorem dL_law_1521 : decode cL_law 1521 = .ok (.laload, 1) := dk_47 (dk_at dksL_law_59 1 rfl rfl)
theorem dL_law_1522 : decode cL_law 1522 = .ok (.iload 6, 2) := dk_21 6 (dk_at dksL_law_59 2 rfl rfl)
theorem dL_law_1524 : decode cL_law 1524 = .ok (.i2l, 1) := dk_133 (dk_at dksL_law_59 4 rfl rfl)
theorem dL_law_1525 : decode cL_law 1525 = .ok (.lcmp, 1) := dk_148 (dk_at dksL_law_59 5 rfl rfl)
theorem dL_law_1526 : decode cL_law 1526 = .ok (.ifCond .eq 5, 3) := dk_153 0 5 (dk_at dksL_law_59 6 rfl rfl)
theorem dL_law_1529 : decode cL_law 1529 = .ok (.iconst 0, 1) := dk_3 (dk_at dksL_law_59 9 rfl rfl)
theorem dL_law_1530 : decode cL_law 1530 = .ok (.ireturn, 1) := dk_172 (dk_at dksL_law_59 10 rfl rfl)
theorem dL_law_1531 : decode cL_law 1531 = .ok (.goto 717, 3) := dk_167 2 205 (dk_at dksL_law_59 11 rfl rfl)
theorem dL_law_1534 : decode cL_law 1534 = .ok (.aload_n 1, 1) := dk_43 (dk_at dksL_law_59 14 rfl rfl)
theorem dL_law_1535 : decode cL_law 1535 = .ok (.aload_n 0, 1) := dk_42 (dk_at dksL_law_59 15 rfl rfl)
theorem dL_law_1536 : decode cL_law 1536 = .ok (.iload 4, 2) := dk_21 4 (dk_at dksL_law_59 16 rfl rfl)
theorem dL_law_1538 : decode cL_law 1538 = .ok (.iconst 1, 1) := dk_4 (dk_at dksL_law_59 18 rfl rfl)
theorem dL_law_1539 : decode cL_law 1539 = .ok (.iadd, 1) := dk_96 (dk_at dksL_law_59 19 rfl rfl)
theorem dL_law_1540 : decode cL_law 1540 = .ok (.iaload, 1) := dk_46 (dk_at dksL_law_59 20 rfl rfl)
theorem dL_law_1541 : decode cL_law 1541 = .ok (.aload_n 3, 1) := dk_45 (dk_at dksL_law_59 21 rfl rfl)
theorem dL_law_1542 : decode cL_law 1542 = .ok (.invokestatic 200, 3) := dk_184 0 200 (dk_at dksL_law_60 0 rfl rfl)
theorem dL_law_1545 : decode cL_law 1545 = .ok (.istore 5, 2) := dk_54 5 (dk_at dksL_law_60 3 rfl rfl)
theorem dL_law_1547 : decode cL_law 1547 = .ok (.aload_n 2, 1) := dk_44 (dk_at dksL_law_60 5 rfl rfl)
theorem dL_law_1548 : decode cL_law 1548 = .ok (.aload_n 0, 1) := dk_42 (dk_at dksL_law_60 6 rfl rfl)
theorem dL_law_1549 : decode cL_law 1549 = .ok (.iload 4, 2) := dk_21 4 (dk_at dksL_law_60 7 rfl rfl)
theorem dL_law_1551 : decode cL_law 1551 = .ok (.iconst 1, 1) := dk_4 (dk_at dksL_law_60 9 rfl rfl)
theorem dL_law_1552 : decode cL_law 1552 = .ok (.iadd, 1) := dk_96 (dk_at dksL_law_60 10 rfl rfl)
theorem dL_law_1553 : decode cL_law 1553 = .ok (.iaload, 1) := dk_46 (dk_at dksL_law_60 11 rfl rfl)
theorem dL_law_1554 : decode cL_law 1554 = .ok (.invokevirtual 202, 3) := dk_182 0 202 (dk_at dksL_law_60 12 rfl rfl)
theorem dL_law_1557 : decode cL_law 1557 = .ok (.istore 6, 2) := dk_54 6 (dk_at dksL_law_60 15 rfl rfl)
theorem dL_law_1559 : decode cL_law 1559 = .ok (.aload_n 2, 1) := dk_44 (dk_at dksL_law_60 17 rfl rfl)
theorem dL_law_1560 : decode cL_law 1560 = .ok (.invokevirtual 126, 3) := dk_182 0 126 (dk_at dksL_law_60 18 rfl rfl)
theorem dL_law_1563 : decode cL_law 1563 = .ok (.iload 5, 2) := dk_21 5 (dk_at dksL_law_60 21 rfl rfl)
theorem dL_law_1565 : decode cL_law 1565 = .ok (.if_icmp .eq 5, 3) := dk_159 0 5 (dk_at dksL_law_61 0 rfl rfl)
theorem dL_law_1568 : decode cL_law 1568 = .ok (.iconst 0, 1) := dk_3 (dk_at dksL_law_61 3 rfl rfl)
theorem dL_law_1569 : decode cL_law 1569 = .ok (.ireturn, 1) := dk_172 (dk_at dksL_law_61 4 rfl rfl)
theorem dL_law_1570 : decode cL_law 1570 = .ok (.iload 5, 2) := dk_21 5 (dk_at dksL_law_61 5 rfl rfl)
theorem dL_law_1572 : decode cL_law 1572 = .ok (.ifCond .ne 15, 3) := dk_154 0 15 (dk_at dksL_law_61 7 rfl rfl)
theorem dL_law_1575 : decode cL_law 1575 = .ok (.aload_n 3, 1) := dk_45 (dk_at dksL_law_61 10 rfl rfl)
theorem dL_law_1576 : decode cL_law 1576 = .ok (.iconst 0, 1) := dk_3 (dk_at dksL_law_61 11 rfl rfl)
theorem dL_law_1577 : decode cL_law 1577 = .ok (.laload, 1) := dk_47 (dk_at dksL_law_61 12 rfl rfl)
theorem dL_law_1578 : decode cL_law 1578 = .ok (.iload 6, 2) := dk_21 6 (dk_at dksL_law_61 13 rfl rfl)
theorem dL_law_1580 : decode cL_law 1580 = .ok (.i2l, 1) := dk_133 (dk_at dksL_law_61 15 rfl rfl)
theorem dL_law_1581 : decode cL_law 1581 = .ok (.lcmp, 1) := dk_148 (dk_at dksL_law_61 16 rfl rfl)
theorem dL_law_1582 : decode cL_law 1582 = .ok (.ifCond .eq 5, 3) := dk_153 0 5 (dk_at dksL_law_61 17 rfl rfl)
theorem dL_law_1585 : decode cL_law 1585 = .ok (.iconst 0, 1) := dk_3 (dk_at dksL_law_61 20 rfl rfl)
theorem dL_law_1586 : decode cL_law 1586 = .ok (.ireturn, 1) := dk_172 (dk_at dksL_law_61 21 rfl rfl)
theorem dL_law_1587 : decode cL_law 1587 = .ok (.goto 661, 3) := dk_167 2 149 (dk_at dksL_law_62 0 rfl rfl)
theorem dL_law_1590 : decode cL_law 1590 = .ok (.aload_n 1, 1) := dk_43 (dk_at dksL_law_62 3 rfl rfl)
theorem dL_law_1591 : decode cL_law 1591 = .ok (.aload_n 0, 1) := dk_42 (dk_at dksL_law_62 4 rfl rfl)
theorem dL_law_1592 : decode cL_law 1592 = .ok (.iload 4, 2) := dk_21 4 (dk_at dksL_law_62 5 rfl rfl)
theorem dL_law_1594 : decode cL_law 1594 = .ok (.iconst 1, 1) := dk_4 (dk_at dksL_law_62 7 rfl rfl)
theorem dL_law_1595 : decode cL_law 1595 = .ok (.iadd, 1) := dk_96 (dk_at dksL_law_62 8 rfl rfl)
theorem dL_law_1596 : decode cL_law 1596 = .ok (.iaload, 1) := dk_46 (dk_at dksL_law_62 9 rfl rfl)
theorem dL_law_1597 : decode cL_law 1597 = .ok (.aload_n 3, 1) := dk_45 (dk_at dksL_law_62 10 rfl rfl)
theorem dL_law_1598 : decode cL_law 1598 = .ok (.invokestatic 203, 3) := dk_184 0 203 (dk_at dksL_law_62 11 rfl rfl)
theorem dL_law_1601 : decode cL_law 1601 = .ok (.istore 5, 2) := dk_54 5 (dk_at dksL_law_62 14 rfl rfl)
theorem dL_law_1603 : decode cL_law 1603 = .ok (.aload_n 2, 1) := dk_44 (dk_at dksL_law_62 16 rfl rfl)
theorem dL_law_1604 : decode cL_law 1604 = .ok (.aload_n 0, 1) := dk_42 (dk_at dksL_law_62 17 rfl rfl)
theorem dL_law_1605 : decode cL_law 1605 = .ok (.iload 4, 2) := dk_21 4 (dk_at dksL_law_62 18 rfl rfl)
theorem dL_law_1607 : decode cL_law 1607 = .ok (.iconst 1, 1) := dk_4 (dk_at dksL_law_62 20 rfl rfl)
theorem dL_law_1608 : decode cL_law 1608 = .ok (.iadd, 1) := dk_96 (dk_at dksL_law_62 21 rfl rfl)
theorem dL_law_1609 : decode cL_law 1609 = .ok (.iaload, 1) := dk_46 (dk_at dksL_law_62 22 rfl rfl)
theorem dL_law_1610 : decode cL_law 1610 = .ok (.invokevirtual 205, 3) := dk_182 0 205 (dk_at dksL_law_63 0 rfl rfl)
theorem dL_law_1613 : decode cL_law 1613 = .ok (.istore 6, 2) := dk_54 6 (dk_at dksL_law_63 3 rfl rfl)
theorem dL_law_1615 : decode cL_law 1615 = .ok (.aload_n 2, 1) := dk_44 (dk_at dksL_law_63 5 rfl rfl)
theorem dL_law_1616 : decode cL_law 1616 = .ok (.invokevirtual 126, 3) := dk_182 0 126 (dk_at dksL_law_63 6 rfl rfl)
theorem dL_law_1619 : decode cL_law 1619 = .ok (.iload 5, 2) := dk_21 5 (dk_at dksL_law_63 9 rfl rfl)
theorem dL_law_1621 : decode cL_law 1621 = .ok (.if_icmp .eq 5, 3) := dk_159 0 5 (dk_at dksL_law_63 11 rfl rfl)
theorem dL_law_1624 : decode cL_law 1624 = .ok (.iconst 0, 1) := dk_3 (dk_at dksL_law_63 14 rfl rfl)
theorem dL_law_1625 : decode cL_law 1625 = .ok (.ireturn, 1) := dk_172 (dk_at dksL_law_63 15 rfl rfl)
theorem dL_law_1626 : decode cL_law 1626 = .ok (.iload 5, 2) := dk_21 5 (dk_at dksL_law_63 16 rfl rfl)
theorem dL_law_1628 : decode cL_law 1628 = .ok (.ifCond .ne 15, 3) := dk_154 0 15 (dk_at dksL_law_63 18 rfl rfl)
theorem dL_law_1631 : decode cL_law 1631 = .ok (.aload_n 3, 1) := dk_45 (dk_at dksL_law_63 21 rfl rfl)
theorem dL_law_1632 : decode cL_law 1632 = .ok (.iconst 0, 1) := dk_3 (dk_at dksL_law_63 22 rfl rfl)
theorem dL_law_1633 : decode cL_law 1633 = .ok (.laload, 1) := dk_47 (dk_at dksL_law_63 23 rfl rfl)
theorem dL_law_1634 : decode cL_law 1634 = .ok (.iload 6, 2) := dk_21 6 (dk_at dksL_law_64 0 rfl rfl)
theorem dL_law_1636 : decode cL_law 1636 = .ok (.i2l, 1) := dk_133 (dk_at dksL_law_64 2 rfl rfl)
theorem dL_law_1637 : decode cL_law 1637 = .ok (.lcmp, 1) := dk_148 (dk_at dksL_law_64 3 rfl rfl)
theorem dL_law_1638 : decode cL_law 1638 = .ok (.ifCond .eq 5, 3) := dk_153 0 5 (dk_at dksL_law_64 4 rfl rfl)
theorem dL_law_1641 : decode cL_law 1641 = .ok (.iconst 0, 1) := dk_3 (dk_at dksL_law_64 7 rfl rfl)
theorem dL_law_1642 : decode cL_law 1642 = .ok (.ireturn, 1) := dk_172 (dk_at dksL_law_64 8 rfl rfl)
theorem dL_law_1643 : decode cL_law 1643 = .ok (.goto 605, 3) := dk_167 2 93 (dk_at dksL_law_64 9 rfl rfl)
theorem dL_law_1646 : decode cL_law 1646 = .ok (.aload_n 1, 1) := dk_43 (dk_at dksL_law_64 12 rfl rfl)
theorem dL_law_1647 : decode cL_law 1647 = .ok (.aload_n 0, 1) := dk_42 (dk_at dksL_law_64 13 rfl rfl)
theorem dL_law_1648 : decode cL_law 1648 = .ok (.iload 4, 2) := dk_21 4 (dk_at dksL_law_64 14 rfl rfl)
theorem dL_law_1650 : decode cL_law 1650 = .ok (.iconst 1, 1) := dk_4 (dk_at dksL_law_64 16 rfl rfl)
theorem dL_law_1651 : decode cL_law 1651 = .ok (.iadd, 1) := dk_96 (dk_at dksL_law_64 17 rfl rfl)
theorem dL_law_1652 : decode cL_law 1652 = .ok (.iaload, 1) := dk_46 (dk_at dksL_law_64 18 rfl rfl)
theorem dL_law_1653 : decode cL_law 1653 = .ok (.aload_n 0, 1) := dk_42 (dk_at dksL_law_64 19 rfl rfl)
theorem dL_law_1654 : decode cL_law 1654 = .ok (.iload 4, 2) := dk_21 4 (dk_at dksL_law_64 20 rfl rfl)
theorem dL_law_1656 : decode cL_law 1656 = .ok (.iconst 2, 1) := dk_5 (dk_at dksL_law_64 22 rfl rfl)
theorem dL_law_1657 : decode cL_law 1657 = .ok (.iadd, 1) := dk_96 (dk_at dksL_law_64 23 rfl rfl)
theorem dL_law_1658 : decode cL_law 1658 = .ok (.iaload, 1) := dk_46 (dk_at dksL_law_65 0 rfl rfl)
theorem dL_law_1659 : decode cL_law 1659 = .ok (.aload_n 3, 1) := dk_45 (dk_at dksL_law_65 1 rfl rfl)
theorem dL_law_1660 : decode cL_law 1660 = .ok (.invokestatic 206, 3) := dk_184 0 206 (dk_at dksL_law_65 2 rfl rfl)
theorem dL_law_1663 : decode cL_law 1663 = .ok (.istore 5, 2) := dk_54 5 (dk_at dksL_law_65 5 rfl rfl)
theorem dL_law_1665 : decode cL_law 1665 = .ok (.aload_n 2, 1) := dk_44 (dk_at dksL_law_65 7 rfl rfl)
theorem dL_law_1666 : decode cL_law 1666 = .ok (.aload_n 0, 1) := dk_42 (dk_at dksL_law_65 8 rfl rfl)
theorem dL_law_1667 : decode cL_law 1667 = .ok (.iload 4, 2) := dk_21 4 (dk_at dksL_law_65 9 rfl rfl)
theorem dL_law_1669 : decode cL_law 1669 = .ok (.iconst 1, 1) := dk_4 (dk_at dksL_law_65 11 rfl rfl)
theorem dL_law_1670 : decode cL_law 1670 = .ok (.iadd, 1) := dk_96 (dk_at dksL_law_65 12 rfl rfl)
theorem dL_law_1671 : decode cL_law 1671 = .ok (.iaload, 1) := dk_46 (dk_at dksL_law_65 13 rfl rfl)
theorem dL_law_1672 : decode cL_law 1672 = .ok (.aload_n 0, 1) := dk_42 (dk_at dksL_law_65 14 rfl rfl)
theorem dL_law_1673 : decode cL_law 1673 = .ok (.iload 4, 2) := dk_21 4 (dk_at dksL_law_65 15 rfl rfl)
theorem dL_law_1675 : decode cL_law 1675 = .ok (.iconst 2, 1) := dk_5 (dk_at dksL_law_65 17 rfl rfl)
theorem dL_law_1676 : decode cL_law 1676 = .ok (.iadd, 1) := dk_96 (dk_at dksL_law_65 18 rfl rfl)
theorem dL_law_1677 : decode cL_law 1677 = .ok (.iaload, 1) := dk_46 (dk_at dksL_law_65 19 rfl rfl)
theorem dL_law_1678 : decode cL_law 1678 = .ok (.invokevirtual 208, 3) := dk_182 0 208 (dk_at dksL_law_65 20 rfl rfl)
theorem dL_law_1681 : decode cL_law 1681 = .ok (.istore 6, 2) := dk_54 6 (dk_at dksL_law_66 0 rfl rfl)
theorem dL_law_1683 : decode cL_law 1683 = .ok (.aload_n 2, 1) := dk_44 (dk_at dksL_law_66 2 rfl rfl)
theorem dL_law_1684 : decode cL_law 1684 = .ok (.invokevirtual 126, 3) := dk_182 0 126 (dk_at dksL_law_66 3 rfl rfl)
theorem dL_law_1687 : decode cL_law 1687 = .ok (.iload 5, 2) := dk_21 5 (dk_at dksL_law_66 6 rfl rfl)
theorem dL_law_1689 : decode cL_law 1689 = .ok (.if_icmp .eq 5, 3) := dk_159 0 5 (dk_at dksL_law_66 8 rfl rfl)
theorem dL_law_1692 : decode cL_law 1692 = .ok (.iconst 0, 1) := dk_3 (dk_at dksL_law_66 11 rfl rfl)
theorem dL_law_1693 : decode cL_law 1693 = .ok (.ireturn, 1) := dk_172 (dk_at dksL_law_66 12 rfl rfl)
theorem dL_law_1694 : decode cL_law 1694 = .ok (.iload 5, 2) := dk_21 5 (dk_at dksL_law_66 13 rfl rfl)
theorem dL_law_1696 : decode cL_law 1696 = .ok (.ifCond .ne 22, 3) := dk_154 0 22 (dk_at dksL_law_66 15 rfl rfl)
theorem dL_law_1699 : decode cL_law 1699 = .ok (.aload_n 3, 1) := dk_45 (dk_at dksL_law_66 18 rfl rfl)
theorem dL_law_1700 : decode cL_law 1700 = .ok (.iconst 0, 1) := dk_3 (dk_at dksL_law_66 19 rfl rfl)
theorem dL_law_1701 : decode cL_law 1701 = .ok (.laload, 1) := dk_47 (dk_at dksL_law_66 20 rfl rfl)
theorem dL_law_1702 : decode cL_law 1702 = .ok (.iload 6, 2) := dk_21 6 (dk_at dksL_law_66 21 rfl rfl)
theorem dL_law_1704 : decode cL_law 1704 = .ok (.ifCond .eq 7, 3) := dk_153 0 7 (dk_at dksL_law_67 0 rfl rfl)
theorem dL_law_1707 : decode cL_law 1707 = .ok (.lconst 1, 1) := dk_10 (dk_at dksL_law_67 3 rfl rfl)
theorem dL_law_1708 : decode cL_law 1708 = .ok (.goto 4, 3) := dk_167 0 4 (dk_at dksL_law_67 4 rfl rfl)
theorem dL_law_1711 : decode cL_law 1711 = .ok (.lconst 0, 1) := dk_9 (dk_at dksL_law_67 7 rfl rfl)
theorem dL_law_1712 : decode cL_law 1712 = .ok (.lcmp, 1) := dk_148 (dk_at dksL_law_67 8 rfl rfl)
theorem dL_law_1713 : decode cL_law 1713 = .ok (.ifCond .eq 5, 3) := dk_153 0 5 (dk_at dksL_law_67 9 rfl rfl)
theorem dL_law_1716 : decode cL_law 1716 = .ok (.iconst 0, 1) := dk_3 (dk_at dksL_law_67 12 rfl rfl)
theorem dL_law_1717 : decode cL_law 1717 = .ok (.ireturn, 1) := dk_172 (dk_at dksL_law_67 13 rfl rfl)
theorem dL_law_1718 : decode cL_law 1718 = .ok (.goto 530, 3) := dk_167 2 18 (dk_at dksL_law_67 14 rfl rfl)
theorem dL_law_1721 : decode cL_law 1721 = .ok (.aload_n 1, 1) := dk_43 (dk_at dksL_law_67 17 rfl rfl)
theorem dL_law_1722 : decode cL_law 1722 = .ok (.aload_n 0, 1) := dk_42 (dk_at dksL_law_67 18 rfl rfl)
theorem dL_law_1723 : decode cL_law 1723 = .ok (.iload 4, 2) := dk_21 4 (dk_at dksL_law_67 19 rfl rfl)
theorem dL_law_1725 : decode cL_law 1725 = .ok (.iconst 1, 1) := dk_4 (dk_at dksL_law_67 21 rfl rfl)
theorem dL_law_1726 : decode cL_law 1726 = .ok (.iadd, 1) := dk_96 (dk_at dksL_law_67 22 rfl rfl)
theorem dL_law_1727 : decode cL_law 1727 = .ok (.iaload, 1) := dk_46 (dk_at dksL_law_67 23 rfl rfl)
theorem dL_law_1728 : decode cL_law 1728 = .ok (.aload_n 3, 1) := dk_45 (dk_at dksL_law_68 0 rfl rfl)
theorem dL_law_1729 : decode cL_law 1729 = .ok (.invokestatic 209, 3) := dk_184 0 209 (dk_at dksL_law_68 1 rfl rfl)
theorem dL_law_1732 : decode cL_law 1732 = .ok (.istore 5, 2) := dk_54 5 (dk_at dksL_law_68 4 rfl rfl)
theorem dL_law_1734 : decode cL_law 1734 = .ok (.aload_n 2, 1) := dk_44 (dk_at dksL_law_68 6 rfl rfl)
theorem dL_law_1735 : decode cL_law 1735 = .ok (.aload_n 0, 1) := dk_42 (dk_at dksL_law_68 7 rfl rfl)
theorem dL_law_1736 : decode cL_law 1736 = .ok (.iload 4, 2) := dk_21 4 (dk_at dksL_law_68 8 rfl rfl)
theorem dL_law_1738 : decode cL_law 1738 = .ok (.iconst 1, 1) := dk_4 (dk_at dksL_law_68 10 rfl rfl)
theorem dL_law_1739 : decode cL_law 1739 = .ok (.iadd, 1) := dk_96 (dk_at dksL_law_68 11 rfl rfl)
theorem dL_law_1740 : decode cL_law 1740 = .ok (.iaload, 1) := dk_46 (dk_at dksL_law_68 12 rfl rfl)
theorem dL_law_1741 : decode cL_law 1741 = .ok (.invokevirtual 211, 3) := dk_182 0 211 (dk_at dksL_law_68 13 rfl rfl)
theorem dL_law_1744 : decode cL_law 1744 = .ok (.istore 6, 2) := dk_54 6 (dk_at dksL_law_68 16 rfl rfl)
theorem dL_law_1746 : decode cL_law 1746 = .ok (.aload_n 2, 1) := dk_44 (dk_at dksL_law_68 18 rfl rfl)
theorem dL_law_1747 : decode cL_law 1747 = .ok (.invokevirtual 126, 3) := dk_182 0 126 (dk_at dksL_law_68 19 rfl rfl)
theorem dL_law_1750 : decode cL_law 1750 = .ok (.iload 5, 2) := dk_21 5 (dk_at dksL_law_68 22 rfl rfl)
theorem dL_law_1752 : decode cL_law 1752 = .ok (.if_icmp .eq 5, 3) := dk_159 0 5 (dk_at dksL_law_69 0 rfl rfl)
theorem dL_law_1755 : decode cL_law 1755 = .ok (.iconst 0, 1) := dk_3 (dk_at dksL_law_69 3 rfl rfl)
theorem dL_law_1756 : decode cL_law 1756 = .ok (.ireturn, 1) := dk_172 (dk_at dksL_law_69 4 rfl rfl)
theorem dL_law_1757 : decode cL_law 1757 = .ok (.iload 5, 2) := dk_21 5 (dk_at dksL_law_69 5 rfl rfl)
theorem dL_law_1759 : decode cL_law 1759 = .ok (.ifCond .ne 15, 3) := dk_154 0 15 (dk_at dksL_law_69 7 rfl rfl)
theorem dL_law_1762 : decode cL_law 1762 = .ok (.aload_n 3, 1) := dk_45 (dk_at dksL_law_69 10 rfl rfl)
theorem dL_law_1763 : decode cL_law 1763 = .ok (.iconst 0, 1) := dk_3 (dk_at dksL_law_69 11 rfl rfl)
theorem dL_law_1764 : decode cL_law 1764 = .ok (.laload, 1) := dk_47 (dk_at dksL_law_69 12 rfl rfl)
theorem dL_law_1765 : decode cL_law 1765 = .ok (.iload 6, 2) := dk_21 6 (dk_at dksL_law_69 13 rfl rfl)
theorem dL_law_1767 : decode cL_law 1767 = .ok (.i2l, 1) := dk_133 (dk_at dksL_law_69 15 rfl rfl)
theorem dL_law_1768 : decode cL_law 1768 = .ok (.lcmp, 1) := dk_148 (dk_at dksL_law_69 16 rfl rfl)
theorem dL_law_1769 : decode cL_law 1769 = .ok (.ifCond .eq 5, 3) := dk_153 0 5 (dk_at dksL_law_69 17 rfl rfl)
theorem dL_law_1772 : decode cL_law 1772 = .ok (.iconst 0, 1) := dk_3 (dk_at dksL_law_69 20 rfl rfl)
theorem dL_law_1773 : decode cL_law 1773 = .ok (.ireturn, 1) := dk_172 (dk_at dksL_law_69 21 rfl rfl)
theorem dL_law_1774 : decode cL_law 1774 = .ok (.goto 474, 3) := dk_167 1 218 (dk_at dksL_law_70 0 rfl rfl)
theorem dL_law_1777 : decode cL_law 1777 = .ok (.aload_n 1, 1) := dk_43 (dk_at dksL_law_70 3 rfl rfl)
theorem dL_law_1778 : decode cL_law 1778 = .ok (.aload_n 0, 1) := dk_42 (dk_at dksL_law_70 4 rfl rfl)
theorem dL_law_1779 : decode cL_law 1779 = .ok (.iload 4, 2) := dk_21 4 (dk_at dksL_law_70 5 rfl rfl)
theorem dL_law_1781 : decode cL_law 1781 = .ok (.iconst 1, 1) := dk_4 (dk_at dksL_law_70 7 rfl rfl)
theorem dL_law_1782 : decode cL_law 1782 = .ok (.iadd, 1) := dk_96 (dk_at dksL_law_70 8 rfl rfl)
theorem dL_law_1783 : decode cL_law 1783 = .ok (.iaload, 1) := dk_46 (dk_at dksL_law_70 9 rfl rfl)
theorem dL_law_1784 : decode cL_law 1784 = .ok (.aload_n 0, 1) := dk_42 (dk_at dksL_law_70 10 rfl rfl)
theorem dL_law_1785 : decode cL_law 1785 = .ok (.iload 4, 2) := dk_21 4 (dk_at dksL_law_70 11 rfl rfl)
theorem dL_law_1787 : decode cL_law 1787 = .ok (.iconst 2, 1) := dk_5 (dk_at dksL_law_70 13 rfl rfl)
theorem dL_law_1788 : decode cL_law 1788 = .ok (.iadd, 1) := dk_96 (dk_at dksL_law_70 14 rfl rfl)
theorem dL_law_1789 : decode cL_law 1789 = .ok (.iaload, 1) := dk_46 (dk_at dksL_law_70 15 rfl rfl)
theorem dL_law_1790 : decode cL_law 1790 = .ok (.aload_n 3, 1) := dk_45 (dk_at dksL_law_70 16 rfl rfl)
theorem dL_law_1791 : decode cL_law 1791 = .ok (.invokestatic 212, 3) := dk_184 0 212 (dk_at dksL_law_70 17 rfl rfl)
theorem dL_law_1794 : decode cL_law 1794 = .ok (.istore 5, 2) := dk_54 5 (dk_at dksL_law_70 20 rfl rfl)
theorem dL_law_1796 : decode cL_law 1796 = .ok (.aload_n 2, 1) := dk_44 (dk_at dksL_law_70 22 rfl rfl)
theorem dL_law_1797 : decode cL_law 1797 = .ok (.aload_n 0, 1) := dk_42 (dk_at dksL_law_70 23 rfl rfl)
theorem dL_law_1798 : decode cL_law 1798 = .ok (.iload 4, 2) := dk_21 4 (dk_at dksL_law_71 0 rfl rfl)
theorem dL_law_1800 : decode cL_law 1800 = .ok (.iconst 1, 1) := dk_4 (dk_at dksL_law_71 2 rfl rfl)
theorem dL_law_1801 : decode cL_law 1801 = .ok (.iadd, 1) := dk_96 (dk_at dksL_law_71 3 rfl rfl)
theorem dL_law_1802 : decode cL_law 1802 = .ok (.iaload, 1) := dk_46 (dk_at dksL_law_71 4 rfl rfl)
theorem dL_law_1803 : decode cL_law 1803 = .ok (.aload_n 0, 1) := dk_42 (dk_at dksL_law_71 5 rfl rfl)
theorem dL_law_1804 : decode cL_law 1804 = .ok (.iload 4, 2) := dk_21 4 (dk_at dksL_law_71 6 rfl rfl)
theorem dL_law_1806 : decode cL_law 1806 = .ok (.iconst 2, 1) := dk_5 (dk_at dksL_law_71 8 rfl rfl)
theorem dL_law_1807 : decode cL_law 1807 = .ok (.iadd, 1) := dk_96 (dk_at dksL_law_71 9 rfl rfl)
theorem dL_law_1808 : decode cL_law 1808 = .ok (.iaload, 1) := dk_46 (dk_at dksL_law_71 10 rfl rfl)
theorem dL_law_1809 : decode cL_law 1809 = .ok (.invokevirtual 214, 3) := dk_182 0 214 (dk_at dksL_law_71 11 rfl rfl)
theorem dL_law_1812 : decode cL_law 1812 = .ok (.istore 6, 2) := dk_54 6 (dk_at dksL_law_71 14 rfl rfl)
theorem dL_law_1814 : decode cL_law 1814 = .ok (.aload_n 2, 1) := dk_44 (dk_at dksL_law_71 16 rfl rfl)
theorem dL_law_1815 : decode cL_law 1815 = .ok (.invokevirtual 126, 3) := dk_182 0 126 (dk_at dksL_law_71 17 rfl rfl)
theorem dL_law_1818 : decode cL_law 1818 = .ok (.iload 5, 2) := dk_21 5 (dk_at dksL_law_71 20 rfl rfl)
theorem dL_law_1820 : decode cL_law 1820 = .ok (.if_icmp .eq 5, 3) := dk_159 0 5 (dk_at dksL_law_72 0 rfl rfl)
theorem dL_law_1823 : decode cL_law 1823 = .ok (.iconst 0, 1) := dk_3 (dk_at dksL_law_72 3 rfl rfl)
theorem dL_law_1824 : decode cL_law 1824 = .ok (.ireturn, 1) := dk_172 (dk_at dksL_law_72 4 rfl rfl)
theorem dL_law_1825 : decode cL_law 1825 = .ok (.iload 5, 2) := dk_21 5 (dk_at dksL_law_72 5 rfl rfl)
theorem dL_law_1827 : decode cL_law 1827 = .ok (.ifCond .ne 15, 3) := dk_154 0 15 (dk_at dksL_law_72 7 rfl rfl)
theorem dL_law_1830 : decode cL_law 1830 = .ok (.aload_n 3, 1) := dk_45 (dk_at dksL_law_72 10 rfl rfl)
theorem dL_law_1831 : decode cL_law 1831 = .ok (.iconst 0, 1) := dk_3 (dk_at dksL_law_72 11 rfl rfl)
theorem dL_law_1832 : decode cL_law 1832 = .ok (.laload, 1) := dk_47 (dk_at dksL_law_72 12 rfl rfl)
theorem dL_law_1833 : decode cL_law 1833 = .ok (.iload 6, 2) := dk_21 6 (dk_at dksL_law_72 13 rfl rfl)
theorem dL_law_1835 : decode cL_law 1835 = .ok (.i2l, 1) := dk_133 (dk_at dksL_law_72 15 rfl rfl)
theorem dL_law_1836 : decode cL_law 1836 = .ok (.lcmp, 1) := dk_148 (dk_at dksL_law_72 16 rfl rfl)
theorem dL_law_1837 : decode cL_law 1837 = .ok (.ifCond .eq 5, 3) := dk_153 0 5 (dk_at dksL_law_72 17 rfl rfl)
theorem dL_law_1840 : decode cL_law 1840 = .ok (.iconst 0, 1) := dk_3 (dk_at dksL_law_72 20 rfl rfl)
theorem dL_law_1841 : decode cL_law 1841 = .ok (.ireturn, 1) := dk_172 (dk_at dksL_law_72 21 rfl rfl)
theorem dL_law_1842 : decode cL_law 1842 = .ok (.goto 406, 3) := dk_167 1 150 (dk_at dksL_law_73 0 rfl rfl)
theorem dL_law_1845 : decode cL_law 1845 = .ok (.aload_n 1, 1) := dk_43 (dk_at dksL_law_73 3 rfl rfl)
theorem dL_law_1846 : decode cL_law 1846 = .ok (.invokevirtual 215, 3) := dk_182 0 215 (dk_at dksL_law_73 4 rfl rfl)
theorem dL_law_1849 : decode cL_law 1849 = .ok (.aload_n 2, 1) := dk_44 (dk_at dksL_law_73 7 rfl rfl)
theorem dL_law_1850 : decode cL_law 1850 = .ok (.invokevirtual 218, 3) := dk_182 0 218 (dk_at dksL_law_73 8 rfl rfl)
theorem dL_law_1853 : decode cL_law 1853 = .ok (.if_icmp .eq 395, 3) := dk_159 1 139 (dk_at dksL_law_73 11 rfl rfl)
theorem dL_law_1856 : decode cL_law 1856 = .ok (.iconst 0, 1) := dk_3 (dk_at dksL_law_73 14 rfl rfl)
theorem dL_law_1857 : decode cL_law 1857 = .ok (.ireturn, 1) := dk_172 (dk_at dksL_law_73 15 rfl rfl)
theorem dL_law_1858 : decode cL_law 1858 = .ok (.aload_n 1, 1) := dk_43 (dk_at dksL_law_73 16 rfl rfl)
theorem dL_law_1859 : decode cL_law 1859 = .ok (.aload_n 0, 1) := dk_42 (dk_at dksL_law_73 17 rfl rfl)
theorem dL_law_1860 : decode cL_law 1860 = .ok (.iload 4, 2) := dk_21 4 (dk_at dksL_law_73 18 rfl rfl)
theorem dL_law_1862 : decode cL_law 1862 = .ok (.iconst 1, 1) := dk_4 (dk_at dksL_law_73 20 rfl rfl)
theorem dL_law_1863 : decode cL_law 1863 = .ok (.iadd, 1) := dk_96 (dk_at dksL_law_73 21 rfl rfl)
theorem dL_law_1864 : decode cL_law 1864 = .ok (.iaload, 1) := dk_46 (dk_at dksL_law_73 22 rfl rfl)
theorem dL_law_1865 : decode cL_law 1865 = .ok (.aload_n 3, 1) := dk_45 (dk_at dksL_law_73 23 rfl rfl)
theorem dL_law_1866 : decode cL_law 1866 = .ok (.invokestatic 219, 3) := dk_184 0 219 (dk_at dksL_law_74 0 rfl rfl)
theorem dL_law_1869 : decode cL_law 1869 = .ok (.istore 5, 2) := dk_54 5 (dk_at dksL_law_74 3 rfl rfl)
theorem dL_law_1871 : decode cL_law 1871 = .ok (.aload_n 2, 1) := dk_44 (dk_at dksL_law_74 5 rfl rfl)
theorem dL_law_1872 : decode cL_law 1872 = .ok (.aload_n 0, 1) := dk_42 (dk_at dksL_law_74 6 rfl rfl)
theorem dL_law_1873 : decode cL_law 1873 = .ok (.iload 4, 2) := dk_21 4 (dk_at dksL_law_74 7 rfl rfl)
theorem dL_law_1875 : decode cL_law 1875 = .ok (.iconst 1, 1) := dk_4 (dk_at dksL_law_74 9 rfl rfl)
theorem dL_law_1876 : decode cL_law 1876 = .ok (.iadd, 1) := dk_96 (dk_at dksL_law_74 10 rfl rfl)
theorem dL_law_1877 : decode cL_law 1877 = .ok (.iaload, 1) := dk_46 (dk_at dksL_law_74 11 rfl rfl)
theorem dL_law_1878 : decode cL_law 1878 = .ok (.invokevirtual 221, 3) := dk_182 0 221 (dk_at dksL_law_74 12 rfl rfl)
theorem dL_law_1881 : decode cL_law 1881 = .ok (.istore 6, 2) := dk_54 6 (dk_at dksL_law_74 15 rfl rfl)
theorem dL_law_1883 : decode cL_law 1883 = .ok (.aload_n 2, 1) := dk_44 (dk_at dksL_law_74 17 rfl rfl)
theorem dL_law_1884 : decode cL_law 1884 = .ok (.invokevirtual 126, 3) := dk_182 0 126 (dk_at dksL_law_74 18 rfl rfl)
theorem dL_law_1887 : decode cL_law 1887 = .ok (.iload 5, 2) := dk_21 5 (dk_at dksL_law_74 21 rfl rfl)
theorem dL_law_1889 : decode cL_law 1889 = .ok (.if_icmp .eq 5, 3) := dk_159 0 5 (dk_at dksL_law_75 0 rfl rfl)
theorem dL_law_1892 : decode cL_law 1892 = .ok (.iconst 0, 1) := dk_3 (dk_at dksL_law_75 3 rfl rfl)
theorem dL_law_1893 : decode cL_law 1893 = .ok (.ireturn, 1) := dk_172 (dk_at dksL_law_75 4 rfl rfl)
theorem dL_law_1894 : decode cL_law 1894 = .ok (.iload 5, 2) := dk_21 5 (dk_at dksL_law_75 5 rfl rfl)
theorem dL_law_1896 : decode cL_law 1896 = .ok (.ifCond .ne 15, 3) := dk_154 0 15 (dk_at dksL_law_75 7 rfl rfl)
theorem dL_law_1899 : decode cL_law 1899 = .ok (.aload_n 3, 1) := dk_45 (dk_at dksL_law_75 10 rfl rfl)
theorem dL_law_1900 : decode cL_law 1900 = .ok (.iconst 0, 1) := dk_3 (dk_at dksL_law_75 11 rfl rfl)
theorem dL_law_1901 : decode cL_law 1901 = .ok (.laload, 1) := dk_47 (dk_at dksL_law_75 12 rfl rfl)
theorem dL_law_1902 : decode cL_law 1902 = .ok (.iload 6, 2) := dk_21 6 (dk_at dksL_law_75 13 rfl rfl)
theorem dL_law_1904 : decode cL_law 1904 = .ok (.i2l, 1) := dk_133 (dk_at dksL_law_75 15 rfl rfl)
theorem dL_law_1905 : decode cL_law 1905 = .ok (.lcmp, 1) := dk_148 (dk_at dksL_law_75 16 rfl rfl)
theorem dL_law_1906 : decode cL_law 1906 = .ok (.ifCond .eq 5, 3) := dk_153 0 5 (dk_at dksL_law_75 17 rfl rfl)
theorem dL_law_1909 : decode cL_law 1909 = .ok (.iconst 0, 1) := dk_3 (dk_at dksL_law_75 20 rfl rfl)
theorem dL_law_1910 : decode cL_law 1910 = .ok (.ireturn, 1) := dk_172 (dk_at dksL_law_75 21 rfl rfl)
theorem dL_law_1911 : decode cL_law 1911 = .ok (.goto 337, 3) := dk_167 1 81 (dk_at dksL_law_76 0 rfl rfl)
theorem dL_law_1914 : decode cL_law 1914 = .ok (.aload_n 1, 1) := dk_43 (dk_at dksL_law_76 3 rfl rfl)
theorem dL_law_1915 : decode cL_law 1915 = .ok (.invokevirtual 222, 3) := dk_182 0 222 (dk_at dksL_law_76 4 rfl rfl)
theorem dL_law_1918 : decode cL_law 1918 = .ok (.aload_n 2, 1) := dk_44 (dk_at dksL_law_76 7 rfl rfl)
theorem dL_law_1919 : decode cL_law 1919 = .ok (.invokevirtual 225, 3) := dk_182 0 225 (dk_at dksL_law_76 8 rfl rfl)
theorem dL_law_1922 : decode cL_law 1922 = .ok (.if_icmp .eq 326, 3) := dk_159 1 70 (dk_at dksL_law_76 11 rfl rfl)
theorem dL_law_1925 : decode cL_law 1925 = .ok (.iconst 0, 1) := dk_3 (dk_at dksL_law_76 14 rfl rfl)
theorem dL_law_1926 : decode cL_law 1926 = .ok (.ireturn, 1) := dk_172 (dk_at dksL_law_76 15 rfl rfl)
theorem dL_law_1927 : decode cL_law 1927 = .ok (.aload_n 1, 1) := dk_43 (dk_at dksL_law_76 16 rfl rfl)
theorem dL_law_1928 : decode cL_law 1928 = .ok (.aload_n 0, 1) := dk_42 (dk_at dksL_law_76 17 rfl rfl)
theorem dL_law_1929 : decode cL_law 1929 = .ok (.iload 4, 2) := dk_21 4 (dk_at dksL_law_76 18 rfl rfl)
theorem dL_law_1931 : decode cL_law 1931 = .ok (.iconst 1, 1) := dk_4 (dk_at dksL_law_76 20 rfl rfl)
theorem dL_law_1932 : decode cL_law 1932 = .ok (.iadd, 1) := dk_96 (dk_at dksL_law_76 21 rfl rfl)
theorem dL_law_1933 : decode cL_law 1933 = .ok (.iaload, 1) := dk_46 (dk_at dksL_law_76 22 rfl rfl)
theorem dL_law_1934 : decode cL_law 1934 = .ok (.aload_n 3, 1) := dk_45 (dk_at dksL_law_76 23 rfl rfl)
theorem dL_law_1935 : decode cL_law 1935 = .ok (.invokestatic 226, 3) := dk_184 0 226 (dk_at dksL_law_77 0 rfl rfl)
theorem dL_law_1938 : decode cL_law 1938 = .ok (.istore 5, 2) := dk_54 5 (dk_at dksL_law_77 3 rfl rfl)
theorem dL_law_1940 : decode cL_law 1940 = .ok (.aload_n 2, 1) := dk_44 (dk_at dksL_law_77 5 rfl rfl)
theorem dL_law_1941 : decode cL_law 1941 = .ok (.aload_n 0, 1) := dk_42 (dk_at dksL_law_77 6 rfl rfl)
theorem dL_law_1942 : decode cL_law 1942 = .ok (.iload 4, 2) := dk_21 4 (dk_at dksL_law_77 7 rfl rfl)
theorem dL_law_1944 : decode cL_law 1944 = .ok (.iconst 1, 1) := dk_4 (dk_at dksL_law_77 9 rfl rfl)
theorem dL_law_1945 : decode cL_law 1945 = .ok (.iadd, 1) := dk_96 (dk_at dksL_law_77 10 rfl rfl)
theorem dL_law_1946 : decode cL_law 1946 = .ok (.iaload, 1) := dk_46 (dk_at dksL_law_77 11 rfl rfl)
theorem dL_law_1947 : decode cL_law 1947 = .ok (.invokevirtual 228, 3) := dk_182 0 228 (dk_at dksL_law_77 12 rfl rfl)
theorem dL_law_1950 : decode cL_law 1950 = .ok (.istore 6, 2) := dk_54 6 (dk_at dksL_law_77 15 rfl rfl)
theorem dL_law_1952 : decode cL_law 1952 = .ok (.aload_n 2, 1) := dk_44 (dk_at dksL_law_77 17 rfl rfl)
theorem dL_law_1953 : decode cL_law 1953 = .ok (.invokevirtual 126, 3) := dk_182 0 126 (dk_at dksL_law_77 18 rfl rfl)
theorem dL_law_1956 : decode cL_law 1956 = .ok (.iload 5, 2) := dk_21 5 (dk_at dksL_law_77 21 rfl rfl)
theorem dL_law_1958 : decode cL_law 1958 = .ok (.if_icmp .eq 5, 3) := dk_159 0 5 (dk_at dksL_law_78 0 rfl rfl)
theorem dL_law_1961 : decode cL_law 1961 = .ok (.iconst 0, 1) := dk_3 (dk_at dksL_law_78 3 rfl rfl)
theorem dL_law_1962 : decode cL_law 1962 = .ok (.ireturn, 1) := dk_172 (dk_at dksL_law_78 4 rfl rfl)
theorem dL_law_1963 : decode cL_law 1963 = .ok (.iload 5, 2) := dk_21 5 (dk_at dksL_law_78 5 rfl rfl)
theorem dL_law_1965 : decode cL_law 1965 = .ok (.ifCond .ne 15, 3) := dk_154 0 15 (dk_at dksL_law_78 7 rfl rfl)
theorem dL_law_1968 : decode cL_law 1968 = .ok (.aload_n 3, 1) := dk_45 (dk_at dksL_law_78 10 rfl rfl)
theorem dL_law_1969 : decode cL_law 1969 = .ok (.iconst 0, 1) := dk_3 (dk_at dksL_law_78 11 rfl rfl)
theorem dL_law_1970 : decode cL_law 1970 = .ok (.laload, 1) := dk_47 (dk_at dksL_law_78 12 rfl rfl)
theorem dL_law_1971 : decode cL_law 1971 = .ok (.iload 6, 2) := dk_21 6 (dk_at dksL_law_78 13 rfl rfl)
theorem dL_law_1973 : decode cL_law 1973 = .ok (.i2l, 1) := dk_133 (dk_at dksL_law_78 15 rfl rfl)
theorem dL_law_1974 : decode cL_law 1974 = .ok (.lcmp, 1) := dk_148 (dk_at dksL_law_78 16 rfl rfl)
theorem dL_law_1975 : decode cL_law 1975 = .ok (.ifCond .eq 5, 3) := dk_153 0 5 (dk_at dksL_law_78 17 rfl rfl)
theorem dL_law_1978 : decode cL_law 1978 = .ok (.iconst 0, 1) := dk_3 (dk_at dksL_law_78 20 rfl rfl)
theorem dL_law_1979 : decode cL_law 1979 = .ok (.ireturn, 1) := dk_172 (dk_at dksL_law_78 21 rfl rfl)
theorem dL_law_1980 : decode cL_law 1980 = .ok (.goto 268, 3) := dk_167 1 12 (dk_at dksL_law_79 0 rfl rfl)
theorem dL_law_1983 : decode cL_law 1983 = .ok (.aload_n 1, 1) := dk_43 (dk_at dksL_law_79 3 rfl rfl)
theorem dL_law_1984 : decode cL_law 1984 = .ok (.aload_n 0, 1) := dk_42 (dk_at dksL_law_79 4 rfl rfl)
theorem dL_law_1985 : decode cL_law 1985 = .ok (.iload 4, 2) := dk_21 4 (dk_at dksL_law_79 5 rfl rfl)
theorem dL_law_1987 : decode cL_law 1987 = .ok (.iconst 1, 1) := dk_4 (dk_at dksL_law_79 7 rfl rfl)
theorem dL_law_1988 : decode cL_law 1988 = .ok (.iadd, 1) := dk_96 (dk_at dksL_law_79 8 rfl rfl)
theorem dL_law_1989 : decode cL_law 1989 = .ok (.iaload, 1) := dk_46 (dk_at dksL_law_79 9 rfl rfl)
theorem dL_law_1990 : decode cL_law 1990 = .ok (.aload_n 0, 1) := dk_42 (dk_at dksL_law_79 10 rfl rfl)
theorem dL_law_1991 : decode cL_law 1991 = .ok (.iload 4, 2) := dk_21 4 (dk_at dksL_law_79 11 rfl rfl)
theorem dL_law_1993 : decode cL_law 1993 = .ok (.iconst 2, 1) := dk_5 (dk_at dksL_law_79 13 rfl rfl)
theorem dL_law_1994 : decode cL_law 1994 = .ok (.iadd, 1) := dk_96 (dk_at dksL_law_79 14 rfl rfl)
theorem dL_law_1995 : decode cL_law 1995 = .ok (.iaload, 1) := dk_46 (dk_at dksL_law_79 15 rfl rfl)
theorem dL_law_1996 : decode cL_law 1996 = .ok (.aload_n 3, 1) := dk_45 (dk_at dksL_law_79 16 rfl rfl)
theorem dL_law_1997 : decode cL_law 1997 = .ok (.invokestatic 229, 3) := dk_184 0 229 (dk_at dksL_law_79 17 rfl rfl)
theorem dL_law_2000 : decode cL_law 2000 = .ok (.istore 5, 2) := dk_54 5 (dk_at dksL_law_79 20 rfl rfl)
theorem dL_law_2002 : decode cL_law 2002 = .ok (.aload_n 2, 1) := dk_44 (dk_at dksL_law_79 22 rfl rfl)
theorem dL_law_2003 : decode cL_law 2003 = .ok (.aload_n 0, 1) := dk_42 (dk_at dksL_law_79 23 rfl rfl)
theorem dL_law_2004 : decode cL_law 2004 = .ok (.iload 4, 2) := dk_21 4 (dk_at dksL_law_80 0 rfl rfl)
theorem dL_law_2006 : decode cL_law 2006 = .ok (.iconst 1, 1) := dk_4 (dk_at dksL_law_80 2 rfl rfl)
theorem dL_law_2007 : decode cL_law 2007 = .ok (.iadd, 1) := dk_96 (dk_at dksL_law_80 3 rfl rfl)
theorem dL_law_2008 : decode cL_law 2008 = .ok (.iaload, 1) := dk_46 (dk_at dksL_law_80 4 rfl rfl)
theorem dL_law_2009 : decode cL_law 2009 = .ok (.aload_n 0, 1) := dk_42 (dk_at dksL_law_80 5 rfl rfl)
theorem dL_law_2010 : decode cL_law 2010 = .ok (.iload 4, 2) := dk_21 4 (dk_at dksL_law_80 6 rfl rfl)
theorem dL_law_2012 : decode cL_law 2012 = .ok (.iconst 2, 1) := dk_5 (dk_at dksL_law_80 8 rfl rfl)
theorem dL_law_2013 : decode cL_law 2013 = .ok (.iadd, 1) := dk_96 (dk_at dksL_law_80 9 rfl rfl)
theorem dL_law_2014 : decode cL_law 2014 = .ok (.iaload, 1) := dk_46 (dk_at dksL_law_80 10 rfl rfl)
theorem dL_law_2015 : decode cL_law 2015 = .ok (.invokevirtual 231, 3) := dk_182 0 231 (dk_at dksL_law_80 11 rfl rfl)
theorem dL_law_2018 : decode cL_law 2018 = .ok (.istore 6, 2) := dk_54 6 (dk_at dksL_law_80 14 rfl rfl)
theorem dL_law_2020 : decode cL_law 2020 = .ok (.aload_n 2, 1) := dk_44 (dk_at dksL_law_80 16 rfl rfl)
theorem dL_law_2021 : decode cL_law 2021 = .ok (.invokevirtual 126, 3) := dk_182 0 126 (dk_at dksL_law_80 17 rfl rfl)
theorem dL_law_2024 : decode cL_law 2024 = .ok (.iload 5, 2) := dk_21 5 (dk_at dksL_law_80 20 rfl rfl)
theorem dL_law_2026 : decode cL_law 2026 = .ok (.if_icmp .eq 5, 3) := dk_159 0 5 (dk_at dksL_law_81 0 rfl rfl)
theorem dL_law_2029 : decode cL_law 2029 = .ok (.iconst 0, 1) := dk_3 (dk_at dksL_law_81 3 rfl rfl)
theorem dL_law_2030 : decode cL_law 2030 = .ok (.ireturn, 1) := dk_172 (dk_at dksL_law_81 4 rfl rfl)
theorem dL_law_2031 : decode cL_law 2031 = .ok (.iload 5, 2) := dk_21 5 (dk_at dksL_law_81 5 rfl rfl)
theorem dL_law_2033 : decode cL_law 2033 = .ok (.ifCond .ne 15, 3) := dk_154 0 15 (dk_at dksL_law_81 7 rfl rfl)
theorem dL_law_2036 : decode cL_law 2036 = .ok (.aload_n 3, 1) := dk_45 (dk_at dksL_law_81 10 rfl rfl)
theorem dL_law_2037 : decode cL_law 2037 = .ok (.iconst 0, 1) := dk_3 (dk_at dksL_law_81 11 rfl rfl)
theorem dL_law_2038 : decode cL_law 2038 = .ok (.laload, 1) := dk_47 (dk_at dksL_law_81 12 rfl rfl)
theorem dL_law_2039 : decode cL_law 2039 = .ok (.iload 6, 2) := dk_21 6 (dk_at dksL_law_81 13 rfl rfl)
theorem dL_law_2041 : decode cL_law 2041 = .ok (.i2l, 1) := dk_133 (dk_at dksL_law_81 15 rfl rfl)
theorem dL_law_2042 : decode cL_law 2042 = .ok (.lcmp, 1) := dk_148 (dk_at dksL_law_81 16 rfl rfl)
theorem dL_law_2043 : decode cL_law 2043 = .ok (.ifCond .eq 5, 3) := dk_153 0 5 (dk_at dksL_law_81 17 rfl rfl)
theorem dL_law_2046 : decode cL_law 2046 = .ok (.iconst 0, 1) := dk_3 (dk_at dksL_law_81 20 rfl rfl)
theorem dL_law_2047 : decode cL_law 2047 = .ok (.ireturn, 1) := dk_172 (dk_at dksL_law_81 21 rfl rfl)
theorem dL_law_2048 : decode cL_law 2048 = .ok (.goto 200, 3) := dk_167 0 200 (dk_at dksL_law_82 0 rfl rfl)
theorem dL_law_2051 : decode cL_law 2051 = .ok (.aload_n 1, 1) := dk_43 (dk_at dksL_law_82 3 rfl rfl)
theorem dL_law_2052 : decode cL_law 2052 = .ok (.invokevirtual 232, 3) := dk_182 0 232 (dk_at dksL_law_82 4 rfl rfl)
theorem dL_law_2055 : decode cL_law 2055 = .ok (.aload_n 2, 1) := dk_44 (dk_at dksL_law_82 7 rfl rfl)
theorem dL_law_2056 : decode cL_law 2056 = .ok (.invokevirtual 235, 3) := dk_182 0 235 (dk_at dksL_law_82 8 rfl rfl)
theorem dL_law_2059 : decode cL_law 2059 = .ok (.if_icmp .eq 189, 3) := dk_159 0 189 (dk_at dksL_law_82 11 rfl rfl)
theorem dL_law_2062 : decode cL_law 2062 = .ok (.iconst 0, 1) := dk_3 (dk_at dksL_law_82 14 rfl rfl)
theorem dL_law_2063 : decode cL_law 2063 = .ok (.ireturn, 1) := dk_172 (dk_at dksL_law_82 15 rfl rfl)
theorem dL_law_2064 : decode cL_law 2064 = .ok (.aload_n 1, 1) := dk_43 (dk_at dksL_law_82 16 rfl rfl)
theorem dL_law_2065 : decode cL_law 2065 = .ok (.aload_n 0, 1) := dk_42 (dk_at dksL_law_82 17 rfl rfl)
theorem dL_law_2066 : decode cL_law 2066 = .ok (.iload 4, 2) := dk_21 4 (dk_at dksL_law_82 18 rfl rfl)
theorem dL_law_2068 : decode cL_law 2068 = .ok (.iconst 1, 1) := dk_4 (dk_at dksL_law_82 20 rfl rfl)
theorem dL_law_2069 : decode cL_law 2069 = .ok (.iadd, 1) := dk_96 (dk_at dksL_law_82 21 rfl rfl)
theorem dL_law_2070 : decode cL_law 2070 = .ok (.iaload, 1) := dk_46 (dk_at dksL_law_82 22 rfl rfl)
theorem dL_law_2071 : decode cL_law 2071 = .ok (.aload_n 3, 1) := dk_45 (dk_at dksL_law_82 23 rfl rfl)
theorem dL_law_2072 : decode cL_law 2072 = .ok (.invokestatic 236, 3) := dk_184 0 236 (dk_at dksL_law_83 0 rfl rfl)
theorem dL_law_2075 : decode cL_law 2075 = .ok (.istore 5, 2) := dk_54 5 (dk_at dksL_law_83 3 rfl rfl)
theorem dL_law_2077 : decode cL_law 2077 = .ok (.aload_n 2, 1) := dk_44 (dk_at dksL_law_83 5 rfl rfl)
theorem dL_law_2078 : decode cL_law 2078 = .ok (.aload_n 0, 1) := dk_42 (dk_at dksL_law_83 6 rfl rfl)
theorem dL_law_2079 : decode cL_law 2079 = .ok (.iload 4, 2) := dk_21 4 (dk_at dksL_law_83 7 rfl rfl)
theorem dL_law_2081 : decode cL_law 2081 = .ok (.iconst 1, 1) := dk_4 (dk_at dksL_law_83 9 rfl rfl)
theorem dL_law_2082 : decode cL_law 2082 = .ok (.iadd, 1) := dk_96 (dk_at dksL_law_83 10 rfl rfl)
theorem dL_law_2083 : decode cL_law 2083 = .ok (.iaload, 1) := dk_46 (dk_at dksL_law_83 11 rfl rfl)
theorem dL_law_2084 : decode cL_law 2084 = .ok (.invokevirtual 238, 3) := dk_182 0 238 (dk_at dksL_law_83 12 rfl rfl)
theorem dL_law_2087 : decode cL_law 2087 = .ok (.istore 6, 2) := dk_54 6 (dk_at dksL_law_83 15 rfl rfl)
theorem dL_law_2089 : decode cL_law 2089 = .ok (.aload_n 2, 1) := dk_44 (dk_at dksL_law_83 17 rfl rfl)
theorem dL_law_2090 : decode cL_law 2090 = .ok (.invokevirtual 126, 3) := dk_182 0 126 (dk_at dksL_law_83 18 rfl rfl)
theorem dL_law_2093 : decode cL_law 2093 = .ok (.iload 5, 2) := dk_21 5 (dk_at dksL_law_83 21 rfl rfl)
theorem dL_law_2095 : decode cL_law 2095 = .ok (.if_icmp .eq 5, 3) := dk_159 0 5 (dk_at dksL_law_84 0 rfl rfl)
theorem dL_law_2098 : decode cL_law 2098 = .ok (.iconst 0, 1) := dk_3 (dk_at dksL_law_84 3 rfl rfl)
theorem dL_law_2099 : decode cL_law 2099 = .ok (.ireturn, 1) := dk_172 (dk_at dksL_law_84 4 rfl rfl)
theorem dL_law_2100 : decode cL_law 2100 = .ok (.iload 5, 2) := dk_21 5 (dk_at dksL_law_84 5 rfl rfl)
theorem dL_law_2102 : decode cL_law 2102 = .ok (.ifCond .ne 15, 3) := dk_154 0 15 (dk_at dksL_law_84 7 rfl rfl)
theorem dL_law_2105 : decode cL_law 2105 = .ok (.aload_n 3, 1) := dk_45 (dk_at dksL_law_84 10 rfl rfl)
theorem dL_law_2106 : decode cL_law 2106 = .ok (.iconst 0, 1) := dk_3 (dk_at dksL_law_84 11 rfl rfl)
theorem dL_law_2107 : decode cL_law 2107 = .ok (.laload, 1) := dk_47 (dk_at dksL_law_84 12 rfl rfl)
theorem dL_law_2108 : decode cL_law 2108 = .ok (.iload 6, 2) := dk_21 6 (dk_at dksL_law_84 13 rfl rfl)
theorem dL_law_2110 : decode cL_law 2110 = .ok (.i2l, 1) := dk_133 (dk_at dksL_law_84 15 rfl rfl)
theorem dL_law_2111 : decode cL_law 2111 = .ok (.lcmp, 1) := dk_148 (dk_at dksL_law_84 16 rfl rfl)
theorem dL_law_2112 : decode cL_law 2112 = .ok (.ifCond .eq 5, 3) := dk_153 0 5 (dk_at dksL_law_84 17 rfl rfl)
theorem dL_law_2115 : decode cL_law 2115 = .ok (.iconst 0, 1) := dk_3 (dk_at dksL_law_84 20 rfl rfl)
theorem dL_law_2116 : decode cL_law 2116 = .ok (.ireturn, 1) := dk_172 (dk_at dksL_law_84 21 rfl rfl)
theorem dL_law_2117 : decode cL_law 2117 = .ok (.goto 131, 3) := dk_167 0 131 (dk_at dksL_law_85 0 rfl rfl)
theorem dL_law_2120 : decode cL_law 2120 = .ok (.aload_n 1, 1) := dk_43 (dk_at dksL_law_85 3 rfl rfl)
theorem dL_law_2121 : decode cL_law 2121 = .ok (.aload_n 0, 1) := dk_42 (dk_at dksL_law_85 4 rfl rfl)
theorem dL_law_2122 : decode cL_law 2122 = .ok (.iload 4, 2) := dk_21 4 (dk_at dksL_law_85 5 rfl rfl)
theorem dL_law_2124 : decode cL_law 2124 = .ok (.iconst 1, 1) := dk_4 (dk_at dksL_law_85 7 rfl rfl)
theorem dL_law_2125 : decode cL_law 2125 = .ok (.iadd, 1) := dk_96 (dk_at dksL_law_85 8 rfl rfl)
theorem dL_law_2126 : decode cL_law 2126 = .ok (.iaload, 1) := dk_46 (dk_at dksL_law_85 9 rfl rfl)
theorem dL_law_2127 : decode cL_law 2127 = .ok (.aload_n 3, 1) := dk_45 (dk_at dksL_law_85 10 rfl rfl)
theorem dL_law_2128 : decode cL_law 2128 = .ok (.invokestatic 239, 3) := dk_184 0 239 (dk_at dksL_law_85 11 rfl rfl)
theorem dL_law_2131 : decode cL_law 2131 = .ok (.istore 5, 2) := dk_54 5 (dk_at dksL_law_85 14 rfl rfl)
theorem dL_law_2133 : decode cL_law 2133 = .ok (.aload_n 2, 1) := dk_44 (dk_at dksL_law_85 16 rfl rfl)
theorem dL_law_2134 : decode cL_law 2134 = .ok (.aload_n 0, 1) := dk_42 (dk_at dksL_law_85 17 rfl rfl)
theorem dL_law_2135 : decode cL_law 2135 = .ok (.iload 4, 2) := dk_21 4 (dk_at dksL_law_85 18 rfl rfl)
theorem dL_law_2137 : decode cL_law 2137 = .ok (.iconst 1, 1) := dk_4 (dk_at dksL_law_85 20 rfl rfl)
theorem dL_law_2138 : decode cL_law 2138 = .ok (.iadd, 1) := dk_96 (dk_at dksL_law_85 21 rfl rfl)
theorem dL_law_2139 : decode cL_law 2139 = .ok (.iaload, 1) := dk_46 (dk_at dksL_law_85 22 rfl rfl)
theorem dL_law_2140 : decode cL_law 2140 = .ok (.invokevirtual 241, 3) := dk_182 0 241 (dk_at dksL_law_86 0 rfl rfl)
theorem dL_law_2143 : decode cL_law 2143 = .ok (.istore 6, 2) := dk_54 6 (dk_at dksL_law_86 3 rfl rfl)
theorem dL_law_2145 : decode cL_law 2145 = .ok (.aload_n 2, 1) := dk_44 (dk_at dksL_law_86 5 rfl rfl)
theorem dL_law_2146 : decode cL_law 2146 = .ok (.invokevirtual 126, 3) := dk_182 0 126 (dk_at dksL_law_86 6 rfl rfl)
theorem dL_law_2149 : decode cL_law 2149 = .ok (.iload 5, 2) := dk_21 5 (dk_at dksL_law_86 9 rfl rfl)
theorem dL_law_2151 : decode cL_law 2151 = .ok (.if_icmp .eq 5, 3) := dk_159 0 5 (dk_at dksL_law_86 11 rfl rfl)
theorem dL_law_2154 : decode cL_law 2154 = .ok (.iconst 0, 1) := dk_3 (dk_at dksL_law_86 14 rfl rfl)
theorem dL_law_2155 : decode cL_law 2155 = .ok (.ireturn, 1) := dk_172 (dk_at dksL_law_86 15 rfl rfl)
theorem dL_law_2156 : decode cL_law 2156 = .ok (.iload 5, 2) := dk_21 5 (dk_at dksL_law_86 16 rfl rfl)
theorem dL_law_2158 : decode cL_law 2158 = .ok (.ifCond .ne 15, 3) := dk_154 0 15 (dk_at dksL_law_86 18 rfl rfl)
theorem dL_law_2161 : decode cL_law 2161 = .ok (.aload_n 3, 1) := dk_45 (dk_at dksL_law_86 21 rfl rfl)
theorem dL_law_2162 : decode cL_law 2162 = .ok (.iconst 0, 1) := dk_3 (dk_at dksL_law_86 22 rfl rfl)
theorem dL_law_2163 : decode cL_law 2163 = .ok (.laload, 1) := dk_47 (dk_at dksL_law_86 23 rfl rfl)
theorem dL_law_2164 : decode cL_law 2164 = .ok (.iload 6, 2) := dk_21 6 (dk_at dksL_law_87 0 rfl rfl)
theorem dL_law_2166 : decode cL_law 2166 = .ok (.i2l, 1) := dk_133 (dk_at dksL_law_87 2 rfl rfl)
theorem dL_law_2167 : decode cL_law 2167 = .ok (.lcmp, 1) := dk_148 (dk_at dksL_law_87 3 rfl rfl)
theorem dL_law_2168 : decode cL_law 2168 = .ok (.ifCond .eq 5, 3) := dk_153 0 5 (dk_at dksL_law_87 4 rfl rfl)
theorem dL_law_2171 : decode cL_law 2171 = .ok (.iconst 0, 1) := dk_3 (dk_at dksL_law_87 7 rfl rfl)
theorem dL_law_2172 : decode cL_law 2172 = .ok (.ireturn, 1) := dk_172 (dk_at dksL_law_87 8 rfl rfl)
theorem dL_law_2173 : decode cL_law 2173 = .ok (.goto 75, 3) := dk_167 0 75 (dk_at dksL_law_87 9 rfl rfl)
theorem dL_law_2176 : decode cL_law 2176 = .ok (.aload_n 1, 1) := dk_43 (dk_at dksL_law_87 12 rfl rfl)
theorem dL_law_2177 : decode cL_law 2177 = .ok (.aload_n 0, 1) := dk_42 (dk_at dksL_law_87 13 rfl rfl)
theorem dL_law_2178 : decode cL_law 2178 = .ok (.iload 4, 2) := dk_21 4 (dk_at dksL_law_87 14 rfl rfl)
theorem dL_law_2180 : decode cL_law 2180 = .ok (.iconst 1, 1) := dk_4 (dk_at dksL_law_87 16 rfl rfl)
theorem dL_law_2181 : decode cL_law 2181 = .ok (.iadd, 1) := dk_96 (dk_at dksL_law_87 17 rfl rfl)
theorem dL_law_2182 : decode cL_law 2182 = .ok (.iaload, 1) := dk_46 (dk_at dksL_law_87 18 rfl rfl)
theorem dL_law_2183 : decode cL_law 2183 = .ok (.invokestatic 242, 3) := dk_184 0 242 (dk_at dksL_law_87 19 rfl rfl)
theorem dL_law_2186 : decode cL_law 2186 = .ok (.istore 5, 2) := dk_54 5 (dk_at dksL_law_87 22 rfl rfl)
theorem dL_law_2188 : decode cL_law 2188 = .ok (.aload_n 2, 1) := dk_44 (dk_at dksL_law_88 0 rfl rfl)
theorem dL_law_2189 : decode cL_law 2189 = .ok (.aload_n 0, 1) := dk_42 (dk_at dksL_law_88 1 rfl rfl)
theorem dL_law_2190 : decode cL_law 2190 = .ok (.iload 4, 2) := dk_21 4 (dk_at dksL_law_88 2 rfl rfl)
theorem dL_law_2192 : decode cL_law 2192 = .ok (.iconst 1, 1) := dk_4 (dk_at dksL_law_88 4 rfl rfl)
theorem dL_law_2193 : decode cL_law 2193 = .ok (.iadd, 1) := dk_96 (dk_at dksL_law_88 5 rfl rfl)
theorem dL_law_2194 : decode cL_law 2194 = .ok (.iaload, 1) := dk_46 (dk_at dksL_law_88 6 rfl rfl)
theorem dL_law_2195 : decode cL_law 2195 = .ok (.invokevirtual 245, 3) := dk_182 0 245 (dk_at dksL_law_88 7 rfl rfl)
theorem dL_law_2198 : decode cL_law 2198 = .ok (.aload_n 2, 1) := dk_44 (dk_at dksL_law_88 10 rfl rfl)
theorem dL_law_2199 : decode cL_law 2199 = .ok (.invokevirtual 126, 3) := dk_182 0 126 (dk_at dksL_law_88 11 rfl rfl)
theorem dL_law_2202 : decode cL_law 2202 = .ok (.iload 5, 2) := dk_21 5 (dk_at dksL_law_88 14 rfl rfl)
theorem dL_law_2204 : decode cL_law 2204 = .ok (.if_icmp .eq 5, 3) := dk_159 0 5 (dk_at dksL_law_88 16 rfl rfl)
theorem dL_law_2207 : decode cL_law 2207 = .ok (.iconst 0, 1) := dk_3 (dk_at dksL_law_88 19 rfl rfl)
theorem dL_law_2208 : decode cL_law 2208 = .ok (.ireturn, 1) := dk_172 (dk_at dksL_law_88 20 rfl rfl)
theorem dL_law_2209 : decode cL_law 2209 = .ok (.goto 39, 3) := dk_167 0 39 (dk_at dksL_law_88 21 rfl rfl)
theorem dL_law_2212 : decode cL_law 2212 = .ok (.aload_n 1, 1) := dk_43 (dk_at dksL_law_89 0 rfl rfl)
theorem dL_law_2213 : decode cL_law 2213 = .ok (.aload_n 0, 1) := dk_42 (dk_at dksL_law_89 1 rfl rfl)
theorem dL_law_2214 : decode cL_law 2214 = .ok (.iload 4, 2) := dk_21 4 (dk_at dksL_law_89 2 rfl rfl)
theorem dL_law_2216 : decode cL_law 2216 = .ok (.iconst 1, 1) := dk_4 (dk_at dksL_law_89 4 rfl rfl)
theorem dL_law_2217 : decode cL_law 2217 = .ok (.iadd, 1) := dk_96 (dk_at dksL_law_89 5 rfl rfl)
theorem dL_law_2218 : decode cL_law 2218 = .ok (.iaload, 1) := dk_46 (dk_at dksL_law_89 6 rfl rfl)
theorem dL_law_2219 : decode cL_law 2219 = .ok (.invokestatic 246, 3) := dk_184 0 246 (dk_at dksL_law_89 7 rfl rfl)
theorem dL_law_2222 : decode cL_law 2222 = .ok (.istore 5, 2) := dk_54 5 (dk_at dksL_law_89 10 rfl rfl)
theorem dL_law_2224 : decode cL_law 2224 = .ok (.aload_n 2, 1) := dk_44 (dk_at dksL_law_89 12 rfl rfl)
theorem dL_law_2225 : decode cL_law 2225 = .ok (.aload_n 0, 1) := dk_42 (dk_at dksL_law_89 13 rfl rfl)
theorem dL_law_2226 : decode cL_law 2226 = .ok (.iload 4, 2) := dk_21 4 (dk_at dksL_law_89 14 rfl rfl)
theorem dL_law_2228 : decode cL_law 2228 = .ok (.iconst 1, 1) := dk_4 (dk_at dksL_law_89 16 rfl rfl)
theorem dL_law_2229 : decode cL_law 2229 = .ok (.iadd, 1) := dk_96 (dk_at dksL_law_89 17 rfl rfl)
theorem dL_law_2230 : decode cL_law 2230 = .ok (.iaload, 1) := dk_46 (dk_at dksL_law_89 18 rfl rfl)
theorem dL_law_2231 : decode cL_law 2231 = .ok (.invokevirtual 248, 3) := dk_182 0 248 (dk_at dksL_law_89 19 rfl rfl)
theorem dL_law_2234 : decode cL_law 2234 = .ok (.aload_n 2, 1) := dk_44 (dk_at dksL_law_89 22 rfl rfl)
theorem dL_law_2235 : decode cL_law 2235 = .ok (.invokevirtual 126, 3) := dk_182 0 126 (dk_at dksL_law_90 0 rfl rfl)
theorem dL_law_2238 : decode cL_law 2238 = .ok (.iload 5, 2) := dk_21 5 (dk_at dksL_law_90 3 rfl rfl)
theorem dL_law_2240 : decode cL_law 2240 = .ok (.if_icmp .eq 5, 3) := dk_159 0 5 (dk_at dksL_law_90 5 rfl rfl)
theorem dL_law_2243 : decode cL_law 2243 = .ok (.iconst 0, 1) := dk_3 (dk_at dksL_law_90 8 rfl rfl)
theorem dL_law_2244 : decode cL_law 2244 = .ok (.ireturn, 1) := dk_172 (dk_at dksL_law_90 9 rfl rfl)
theorem dL_law_2245 : decode cL_law 2245 = .ok (.goto 3, 3) := dk_167 0 3 (dk_at dksL_law_90 10 rfl rfl)
theorem dL_law_2248 : decode cL_law 2248 = .ok (.iinc 4 6, 3) := dk_132 4 6 (dk_at dksL_law_90 13 rfl rfl)
theorem dL_law_2251 : decode cL_law 2251 = .ok (.goto (-2228), 3) := dk_167 247 76 (dk_at dksL_law_90 16 rfl rfl)
theorem dL_law_2254 : decode cL_law 2254 = .ok (.iconst 1, 1) := dk_4 (dk_at dksL_law_90 19 rfl rfl)
theorem dL_law_2255 : decode cL_law 2255 = .ok (.ireturn, 1) := dk_172 (dk_at dksL_law_90 20 rfl rfl)

