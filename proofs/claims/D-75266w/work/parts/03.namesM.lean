/-! NoteImporterModel -/
set_option maxRecDepth 100000
def RX3 : String := "NoteImporterModel"
def TX3 : u_T := fun k => match k with
  | 0 => ("NoteImporterModel", "state", "[I", true)
  | 1 => ("NoteImporterModel", "backup", "[I", true)
  | 2 => ("NoteImporterModel", "saved", "[I", true)
  | 3 => ("NoteImporterModel", "words", "[J", true)
  | 4 => ("NoteImporterModel", "backupWords", "[J", true)
  | 5 => ("NoteImporterModel", "savedWords", "[J", true)
  | 6 => ("NoteImporterModel", "isSaved", "[Z", true)
  | 7 => ("NoteImporterModel", "thrown", "I", false)
  | 8 => ("NoteImporterModel", "text", "[I", true)
  | 9 => ("NoteImporterModel", "textLength", "I", false)
  | 10 => ("NoteImporterModel", "found", "[J", true)
  | 11 => ("NoteImporterModel", "foundCount", "I", false)
  | 12 => ("NoteImporterModel", "lineOf", "[I", true)
  | 13 => ("NoteImporterModel", "columnOf", "[I", true)
  | 14 => ("NoteImporterModel", "numberOf", "[I", true)
  | 15 => ("NoteImporterModel", "common", "[I", true)
  | 16 => ("NoteImporterModel", "partnerOf", "[I", true)
  | 17 => ("NoteImporterModel", "anchorState", "[I", true)
  | 18 => ("NoteImporterModel", "anchorFirst", "[I", true)
  | 19 => ("NoteImporterModel", "anchorLast", "[I", true)
  | 20 => ("NoteImporterModel", "anchorPartners", "[I", true)
  | 21 => ("NoteImporterModel", "groupBy", "[I", true)
  | 22 => ("NoteImporterModel", "groupFirst", "[I", true)
  | 23 => ("NoteImporterModel", "groupLast", "[I", true)
  | 24 => ("NoteImporterModel", "groupNote", "[I", true)
  | 25 => ("NoteImporterModel", "groupLowest", "[I", true)
  | 26 => ("NoteImporterModel", "groupNotes", "[I", true)
  | 27 => ("NoteImporterModel", "groupReaders", "[I", true)
  | 28 => ("NoteImporterModel", "groupCount", "I", false)
  | 29 => ("NoteImporterModel", "queue", "[I", true)
  | 30 => ("NoteImporterModel", "rows", "[I", true)
  | 31 => ("NoteImporterModel", "setCount", "I", false)
  | 32 => ("NoteImporterModel", "leftOutCount", "I", false)
  | 33 => ("NoteImporterModel", "output", "[I", true)
  | 34 => ("NoteImporterModel", "outputLength", "I", false)
  | 35 => ("NoteImporterModel", "position", "I", false)
  | 36 => ("NoteImporterModel", "tokenStart", "I", false)
  | 37 => ("NoteImporterModel", "token", "I", false)
  | 38 => ("NoteImporterModel", "letters", "I", false)
  | 39 => ("NoteImporterModel", "number", "I", false)
  | 40 => ("NoteImporterModel", "errorCode", "I", false)
  | 41 => ("NoteImporterModel", "errorPosition", "I", false)
  | 42 => ("NoteImporterModel", "word", "J", false)
  | 43 => ("NoteImporterModel", "spanFirst", "I", false)
  | _ => ("NoteImporterModel", "spanLast", "I", false)
def tyX3 : Nat → FieldType := fun k => match k with
  | 0 => .array .int
  | 1 => .array .int
  | 2 => .array .int
  | 3 => .array .long
  | 4 => .array .long
  | 5 => .array .long
  | 6 => .array .boolean
  | 7 => .int
  | 8 => .array .int
  | 9 => .int
  | 10 => .array .long
  | 11 => .int
  | 12 => .array .int
  | 13 => .array .int
  | 14 => .array .int
  | 15 => .array .int
  | 16 => .array .int
  | 17 => .array .int
  | 18 => .array .int
  | 19 => .array .int
  | 20 => .array .int
  | 21 => .array .int
  | 22 => .array .int
  | 23 => .array .int
  | 24 => .array .int
  | 25 => .array .int
  | 26 => .array .int
  | 27 => .array .int
  | 28 => .int
  | 29 => .array .int
  | 30 => .array .int
  | 31 => .int
  | 32 => .int
  | 33 => .array .int
  | 34 => .int
  | 35 => .int
  | 36 => .int
  | 37 => .int
  | 38 => .int
  | 39 => .int
  | 40 => .int
  | 41 => .int
  | 42 => .long
  | 43 => .int
  | _ => .int
abbrev wsX30 : List Cond := u_ws RX3 TX3 45
set_option maxRecDepth 100000 in
theorem nmX3 : ∀ a, a < 45 → ∀ b, b < 45 → a ≠ b → (TX3 a).2.1 ≠ (TX3 b).2.1 := by decide +kernel
set_option maxRecDepth 100000 in
theorem tyX3_ok : ∀ k, k < 45 → parseFieldDescriptor (TX3 k).2.2.1 = some (tyX3 k) := by decide +kernel
abbrev cX3_init : ByteArray := prog_16_method_1_code
def yX3_init : MethodName := ⟨RX3, "<init>", "()V"⟩
def dkwX3_init_10 : List UInt8 := [181, 0, 93, 42, 2, 181, 0, 96, 42, 180, 0, 7, 6, 16, 50, 79, 177]
abbrev dktX3_init_10 : List UInt8 := dkwX3_init_10 ++ []
def dkwX3_init_9 : List UInt8 := [42, 16, 40, 188, 10, 181, 0, 87, 42, 16, 40, 188, 10, 181, 0, 90, 42, 17, 6, 64, 188, 10]
abbrev dktX3_init_9 : List UInt8 := dkwX3_init_9 ++ dktX3_init_10
def dkwX3_init_8 : List UInt8 := [42, 16, 40, 188, 10, 181, 0, 78, 42, 16, 40, 188, 10, 181, 0, 81, 42, 16, 40, 188, 10, 181, 0, 84]
abbrev dktX3_init_8 : List UInt8 := dkwX3_init_8 ++ dktX3_init_9
def dkwX3_init_7 : List UInt8 := [42, 16, 40, 188, 10, 181, 0, 69, 42, 16, 40, 188, 10, 181, 0, 72, 42, 16, 40, 188, 10, 181, 0, 75]
abbrev dktX3_init_7 : List UInt8 := dkwX3_init_7 ++ dktX3_init_8
def dkwX3_init_6 : List UInt8 := [42, 16, 40, 188, 10, 181, 0, 60, 42, 16, 40, 188, 10, 181, 0, 63, 42, 16, 40, 188, 10, 181, 0, 66]
abbrev dktX3_init_6 : List UInt8 := dkwX3_init_6 ++ dktX3_init_7
def dkwX3_init_5 : List UInt8 := [42, 16, 120, 188, 10, 181, 0, 51, 42, 16, 40, 188, 10, 181, 0, 54, 42, 16, 40, 188, 10, 181, 0, 57]
abbrev dktX3_init_5 : List UInt8 := dkwX3_init_5 ++ dktX3_init_6
def dkwX3_init_4 : List UInt8 := [16, 120, 188, 10, 181, 0, 42, 42, 16, 120, 188, 10, 181, 0, 45, 42, 17, 57, 49, 188, 10, 181, 0, 48]
abbrev dktX3_init_4 : List UInt8 := dkwX3_init_4 ++ dktX3_init_5
def dkwX3_init_3 : List UInt8 := [188, 10, 181, 0, 33, 42, 17, 1, 244, 188, 11, 181, 0, 36, 42, 16, 120, 188, 10, 181, 0, 39, 42]
abbrev dktX3_init_3 : List UInt8 := dkwX3_init_3 ++ dktX3_init_4
def dkwX3_init_2 : List UInt8 := [181, 0, 23, 42, 17, 4, 188, 188, 11, 181, 0, 26, 42, 5, 188, 4, 181, 0, 29, 42, 17, 3, 132]
abbrev dktX3_init_2 : List UInt8 := dkwX3_init_2 ++ dktX3_init_3
def dkwX3_init_1 : List UInt8 := [17, 4, 204, 188, 10, 181, 0, 16, 42, 17, 2, 94, 188, 11, 181, 0, 19, 42, 17, 2, 94, 188, 11]
abbrev dktX3_init_1 : List UInt8 := dkwX3_init_1 ++ dktX3_init_2
def dkwX3_init_0 : List UInt8 := [42, 183, 0, 1, 42, 17, 2, 102, 188, 10, 181, 0, 7, 42, 17, 2, 102, 188, 10, 181, 0, 13, 42]
abbrev dktX3_init_0 : List UInt8 := dkwX3_init_0 ++ dktX3_init_1
theorem dksX3_init_0 : cX3_init.data.toList.drop 0 = dktX3_init_0 := by decide +kernel
theorem dksX3_init_1 : cX3_init.data.toList.drop 23 = dktX3_init_1 := dk_seg dksX3_init_0 23 rfl rfl
theorem dksX3_init_2 : cX3_init.data.toList.drop 46 = dktX3_init_2 := dk_seg dksX3_init_1 23 rfl rfl
theorem dksX3_init_3 : cX3_init.data.toList.drop 69 = dktX3_init_3 := dk_seg dksX3_init_2 23 rfl rfl
theorem dksX3_init_4 : cX3_init.data.toList.drop 92 = dktX3_init_4 := dk_seg dksX3_init_3 23 rfl rfl
theorem dksX3_init_5 : cX3_init.data.toList.drop 116 = dktX3_init_5 := dk_seg dksX3_init_4 24 rfl rfl
theorem dksX3_init_6 : cX3_init.data.toList.drop 140 = dktX3_init_6 := dk_seg dksX3_init_5 24 rfl rfl
theorem dksX3_init_7 : cX3_init.data.toList.drop 164 = dktX3_init_7 := dk_seg dksX3_init_6 24 rfl rfl
theorem dksX3_init_8 : cX3_init.data.toList.drop 188 = dktX3_init_8 := dk_seg dksX3_init_7 24 rfl rfl
theorem dksX3_init_9 : cX3_init.data.toList.drop 212 = dktX3_init_9 := dk_seg dksX3_init_8 24 rfl rfl
theorem dksX3_init_10 : cX3_init.data.toList.drop 234 = dktX3_init_10 := dk_seg dksX3_init_9 22 rfl rfl
theorem dX3_init_0 : decode cX3_init 0 = .ok (.aload_n 0, 1) := dk_42 (dk_at dksX3_init_0 0 rfl rfl)
theorem dX3_init_1 : decode cX3_init 1 = .ok (.invokespecial 1, 3) := dk_183 0 1 (dk_at dksX3_init_0 1 rfl rfl)
theorem dX3_init_4 : decode cX3_init 4 = .ok (.aload_n 0, 1) := dk_42 (dk_at dksX3_init_0 4 rfl rfl)
theorem dX3_init_5 : decode cX3_init 5 = .ok (.sipush 614, 3) := dk_17 2 102 (dk_at dksX3_init_0 5 rfl rfl)
theorem dX3_init_8 : decode cX3_init 8 = .ok (.newarray .int, 2) := dk_188_10 (dk_at dksX3_init_0 8 rfl rfl)
theorem dX3_init_10 : decode cX3_init 10 = .ok (.putfield 7, 3) := dk_181 0 7 (dk_at dksX3_init_0 10 rfl rfl)
theorem dX3_init_13 : decode cX3_init 13 = .ok (.aload_n 0, 1) := dk_42 (dk_at dksX3_init_0 13 rfl rfl)
theorem dX3_init_14 : decode cX3_init 14 = .ok (.sipush 614, 3) := dk_17 2 102 (dk_at dksX3_init_0 14 rfl rfl)
theorem dX3_init_17 : decode cX3_init 17 = .ok (.newarray .int, 2) := dk_188_10 (dk_at dksX3_init_0 17 rfl rfl)
theorem dX3_init_19 : decode cX3_init 19 = .ok (.putfield 13, 3) := dk_181 0 13 (dk_at dksX3_init_0 19 rfl rfl)
theorem dX3_init_22 : decode cX3_init 22 = .ok (.aload_n 0, 1) := dk_42 (dk_at dksX3_init_0 22 rfl rfl)
theorem dX3_init_23 : decode cX3_init 23 = .ok (.sipush 1228, 3) := dk_17 4 204 (dk_at dksX3_init_1 0 rfl rfl)
theorem dX3_init_26 : decode cX3_init 26 = .ok (.newarray .int, 2) := dk_188_10 (dk_at dksX3_init_1 3 rfl rfl)
theorem dX3_init_28 : decode cX3_init 28 = .ok (.putfield 16, 3) := dk_181 0 16 (dk_at dksX3_init_1 5 rfl rfl)
theorem dX3_init_31 : decode cX3_init 31 = .ok (.aload_n 0, 1) := dk_42 (dk_at dksX3_init_1 8 rfl rfl)
theorem dX3_init_32 : decode cX3_init 32 = .ok (.sipush 606, 3) := dk_17 2 94 (dk_at dksX3_init_1 9 rfl rfl)
theorem dX3_init_35 : decode cX3_init 35 = .ok (.newarray .long, 2) := dk_188_11 (dk_at dksX3_init_1 12 rfl rfl)
theorem dX3_init_37 : decode cX3_init 37 = .ok (.putfield 19, 3) := dk_181 0 19 (dk_at dksX3_init_1 14 rfl rfl)
theorem dX3_init_40 : decode cX3_init 40 = .ok (.aload_n 0, 1) := dk_42 (dk_at dksX3_init_1 17 rfl rfl)
theorem dX3_init_41 : decode cX3_init 41 = .ok (.sipush 606, 3) := dk_17 2 94 (dk_at dksX3_init_1 18 rfl rfl)
theorem dX3_init_44 : decode cX3_init 44 = .ok (.newarray .long, 2) := dk_188_11 (dk_at dksX3_init_1 21 rfl rfl)
theorem dX3_init_46 : decode cX3_init 46 = .ok (.putfield 23, 3) := dk_181 0 23 (dk_at dksX3_init_2 0 rfl rfl)
theorem dX3_init_49 : decode cX3_init 49 = .ok (.aload_n 0, 1) := dk_42 (dk_at dksX3_init_2 3 rfl rfl)
theorem dX3_init_50 : decode cX3_init 50 = .ok (.sipush 1212, 3) := dk_17 4 188 (dk_at dksX3_init_2 4 rfl rfl)
theorem dX3_init_53 : decode cX3_init 53 = .ok (.newarray .long, 2) := dk_188_11 (dk_at dksX3_init_2 7 rfl rfl)
theorem dX3_init_55 : decode cX3_init 55 = .ok (.putfield 26, 3) := dk_181 0 26 (dk_at dksX3_init_2 9 rfl rfl)
theorem dX3_init_58 : decode cX3_init 58 = .ok (.aload_n 0, 1) := dk_42 (dk_at dksX3_init_2 12 rfl rfl)
theorem dX3_init_59 : decode cX3_init 59 = .ok (.iconst 2, 1) := dk_5 (dk_at dksX3_init_2 13 rfl rfl)
theorem dX3_init_60 : decode cX3_init 60 = .ok (.newarray .boolean, 2) := dk_188_4 (dk_at dksX3_init_2 14 rfl rfl)
theorem dX3_init_62 : decode cX3_init 62 = .ok (.putfield 29, 3) := dk_181 0 29 (dk_at dksX3_init_2 16 rfl rfl)
theorem dX3_init_65 : decode cX3_init 65 = .ok (.aload_n 0, 1) := dk_42 (dk_at dksX3_init_2 19 rfl rfl)
theorem dX3_init_66 : decode cX3_init 66 = .ok (.sipush 900, 3) := dk_17 3 132 (dk_at dksX3_init_2 20 rfl rfl)
theorem dX3_init_69 : decode cX3_init 69 = .ok (.newarray .int, 2) := dk_188_10 (dk_at dksX3_init_3 0 rfl rfl)
theorem dX3_init_71 : decode cX3_init 71 = .ok (.putfield 33, 3) := dk_181 0 33 (dk_at dksX3_init_3 2 rfl rfl)
theorem dX3_init_74 : decode cX3_init 74 = .ok (.aload_n 0, 1) := dk_42 (dk_at dksX3_init_3 5 rfl rfl)
theorem dX3_init_75 : decode cX3_init 75 = .ok (.sipush 500, 3) := dk_17 1 244 (dk_at dksX3_init_3 6 rfl rfl)
theorem dX3_init_78 : decode cX3_init 78 = .ok (.newarray .long, 2) := dk_188_11 (dk_at dksX3_init_3 9 rfl rfl)
theorem dX3_init_80 : decode cX3_init 80 = .ok (.putfield 36, 3) := dk_181 0 36 (dk_at dksX3_init_3 11 rfl rfl)
theorem dX3_init_83 : decode cX3_init 83 = .ok (.aload_n 0, 1) := dk_42 (dk_at dksX3_init_3 14 rfl rfl)
theorem dX3_init_84 : decode cX3_init 84 = .ok (.bipush 120, 2) := dk_16 120 (dk_at dksX3_init_3 15 rfl rfl)
theorem dX3_init_86 : decode cX3_init 86 = .ok (.newarray .int, 2) := dk_188_10 (dk_at dksX3_init_3 17 rfl rfl)
theorem dX3_init_88 : decode cX3_init 88 = .ok (.putfield 39, 3) := dk_181 0 39 (dk_at dksX3_init_3 19 rfl rfl)
theorem dX3_init_91 : decode cX3_init 91 = .ok (.aload_n 0, 1) := dk_42 (dk_at dksX3_init_3 22 rfl rfl)
theorem dX3_init_92 : decode cX3_init 92 = .ok (.bipush 120, 2) := dk_16 120 (dk_at dksX3_init_4 0 rfl rfl)
theorem dX3_init_94 : decode cX3_init 94 = .ok (.newarray .int, 2) := dk_188_10 (dk_at dksX3_init_4 2 rfl rfl)
theorem dX3_init_96 : decode cX3_init 96 = .ok (.putfield 42, 3) := dk_181 0 42 (dk_at dksX3_init_4 4 rfl rfl)
theorem dX3_init_99 : decode cX3_init 99 = .ok (.aload_n 0, 1) := dk_42 (dk_at dksX3_init_4 7 rfl rfl)
theorem dX3_init_100 : decode cX3_init 100 = .ok (.bipush 120, 2) := dk_16 120 (dk_at dksX3_init_4 8 rfl rfl)
theorem dX3_init_102 : decode cX3_init 102 = .ok (.newarray .int, 2) := dk_188_10 (dk_at dksX3_init_4 10 rfl rfl)
theorem dX3_init_104 : decode cX3_init 104 = .ok (.putfield 45, 3) := dk_181 0 45 (dk_at dksX3_init_4 12 rfl rfl)
theorem dX3_init_107 : decode cX3_init 107 = .ok (.aload_n 0, 1) := dk_42 (dk_at dksX3_init_4 15 rfl rfl)
theorem dX3_init_108 : decode cX3_init 108 = .ok (.sipush 14641, 3) := dk_17 57 49 (dk_at dksX3_init_4 16 rfl rfl)
theorem dX3_init_111 : decode cX3_init 111 = .ok (.newarray .int, 2) := dk_188_10 (dk_at dksX3_init_4 19 rfl rfl)
theorem dX3_init_113 : decode cX3_init 113 = .ok (.putfield 48, 3) := dk_181 0 48 (dk_at dksX3_init_4 21 rfl rfl)
theorem dX3_init_116 : decode cX3_init 116 = .ok (.aload_n 0, 1) := dk_42 (dk_at dksX3_init_5 0 rfl rfl)
theorem dX3_init_117 : decode cX3_init 117 = .ok (.bipush 120, 2) := dk_16 120 (dk_at dksX3_init_5 1 rfl rfl)
theorem dX3_init_119 : decode cX3_init 119 = .ok (.newarray .int, 2) := dk_188_10 (dk_at dksX3_init_5 3 rfl rfl)
theorem dX3_init_121 : decode cX3_init 121 = .ok (.putfield 51, 3) := dk_181 0 51 (dk_at dksX3_init_5 5 rfl rfl)
theorem dX3_init_124 : decode cX3_init 124 = .ok (.aload_n 0, 1) := dk_42 (dk_at dksX3_init_5 8 rfl rfl)
theorem dX3_init_125 : decode cX3_init 125 = .ok (.bipush 40, 2) := dk_16 40 (dk_at dksX3_init_5 9 rfl rfl)
theorem dX3_init_127 : decode cX3_init 127 = .ok (.newarray .int, 2) := dk_188_10 (dk_at dksX3_init_5 11 rfl rfl)
theorem dX3_init_129 : decode cX3_init 129 = .ok (.putfield 54, 3) := dk_181 0 54 (dk_at dksX3_init_5 13 rfl rfl)
theorem dX3_init_132 : decode cX3_init 132 = .ok (.aload_n 0, 1) := dk_42 (dk_at dksX3_init_5 16 rfl rfl)
theorem dX3_init_133 : decode cX3_init 133 = .ok (.bipush 40, 2) := dk_16 40 (dk_at dksX3_init_5 17 rfl rfl)
theorem dX3_init_135 : decode cX3_init 135 = .ok (.newarray .int, 2) := dk_188_10 (dk_at dksX3_init_5 19 rfl rfl)
theorem dX3_init_137 : decode cX3_init 137 = .ok (.putfield 57, 3) := dk_181 0 57 (dk_at dksX3_init_5 21 rfl rfl)
theorem dX3_init_140 : decode cX3_init 140 = .ok (.aload_n 0, 1) := dk_42 (dk_at dksX3_init_6 0 rfl rfl)
theorem dX3_init_141 : decode cX3_init 141 = .ok (.bipush 40, 2) := dk_16 40 (dk_at dksX3_init_6 1 rfl rfl)
theorem dX3_init_143 : decode cX3_init 143 = .ok (.newarray .int, 2) := dk_188_10 (dk_at dksX3_init_6 3 rfl rfl)
theorem dX3_init_145 : decode cX3_init 145 = .ok (.putfield 60, 3) := dk_181 0 60 (dk_at dksX3_init_6 5 rfl rfl)
theorem dX3_init_148 : decode cX3_init 148 = .ok (.aload_n 0, 1) := dk_42 (dk_at dksX3_init_6 8 rfl rfl)
theorem dX3_init_149 : decode cX3_init 149 = .ok (.bipush 40, 2) := dk_16 40 (dk_at dksX3_init_6 9 rfl rfl)
theorem dX3_init_151 : decode cX3_init 151 = .ok (.newarray .int, 2) := dk_188_10 (dk_at dksX3_init_6 11 rfl rfl)
theorem dX3_init_153 : decode cX3_init 153 = .ok (.putfield 63, 3) := dk_181 0 63 (dk_at dksX3_init_6 13 rfl rfl)
theorem dX3_init_156 : decode cX3_init 156 = .ok (.aload_n 0, 1) := dk_42 (dk_at dksX3_init_6 16 rfl rfl)
theorem dX3_init_157 : decode cX3_init 157 = .ok (.bipush 40, 2) := dk_16 40 (dk_at dksX3_init_6 17 rfl rfl)
theorem dX3_init_159 : decode cX3_init 159 = .ok (.newarray .int, 2) := dk_188_10 (dk_at dksX3_init_6 19 rfl rfl)
theorem dX3_init_161 : decode cX3_init 161 = .ok (.putfield 66, 3) := dk_181 0 66 (dk_at dksX3_init_6 21 rfl rfl)
theorem dX3_init_164 : decode cX3_init 164 = .ok (.aload_n 0, 1) := dk_42 (dk_at dksX3_init_7 0 rfl rfl)
theorem dX3_init_165 : decode cX3_init 165 = .ok (.bipush 40, 2) := dk_16 40 (dk_at dksX3_init_7 1 rfl rfl)
theorem dX3_init_167 : decode cX3_init 167 = .ok (.newarray .int, 2) := dk_188_10 (dk_at dksX3_init_7 3 rfl rfl)
theorem dX3_init_169 : decode cX3_init 169 = .ok (.putfield 69, 3) := dk_181 0 69 (dk_at dksX3_init_7 5 rfl rfl)
theorem dX3_init_172 : decode cX3_init 172 = .ok (.aload_n 0, 1) := dk_42 (dk_at dksX3_init_7 8 rfl rfl)
theorem dX3_init_173 : decode cX3_init 173 = .ok (.bipush 40, 2) := dk_16 40 (dk_at dksX3_init_7 9 rfl rfl)
theorem dX3_init_175 : decode cX3_init 175 = .ok (.newarray .int, 2) := dk_188_10 (dk_at dksX3_init_7 11 rfl rfl)
theorem dX3_init_177 : decode cX3_init 177 = .ok (.putfield 72, 3) := dk_181 0 72 (dk_at dksX3_init_7 13 rfl rfl)
theorem dX3_init_180 : decode cX3_init 180 = .ok (.aload_n 0, 1) := dk_42 (dk_at dksX3_init_7 16 rfl rfl)
theorem dX3_init_181 : decode cX3_init 181 = .ok (.bipush 40, 2) := dk_16 40 (dk_at dksX3_init_7 17 rfl rfl)
theorem dX3_init_183 : decode cX3_init 183 = .ok (.newarray .int, 2) := dk_188_10 (dk_at dksX3_init_7 19 rfl rfl)
theorem dX3_init_185 : decode cX3_init 185 = .ok (.putfield 75, 3) := dk_181 0 75 (dk_at dksX3_init_7 21 rfl rfl)
theorem dX3_init_188 : decode cX3_init 188 = .ok (.aload_n 0, 1) := dk_42 (dk_at dksX3_init_8 0 rfl rfl)
theorem dX3_init_189 : decode cX3_init 189 = .ok (.bipush 40, 2) := dk_16 40 (dk_at dksX3_init_8 1 rfl rfl)
theorem dX3_init_191 : decode cX3_init 191 = .ok (.newarray .int, 2) := dk_188_10 (dk_at dksX3_init_8 3 rfl rfl)
theorem dX3_init_193 : decode cX3_init 193 = .ok (.putfield 78, 3) := dk_181 0 78 (dk_at dksX3_init_8 5 rfl rfl)
theorem dX3_init_196 : decode cX3_init 196 = .ok (.aload_n 0, 1) := dk_42 (dk_at dksX3_init_8 8 rfl rfl)
theorem dX3_init_197 : decode cX3_init 197 = .ok (.bipush 40, 2) := dk_16 40 (dk_at dksX3_init_8 9 rfl rfl)
theorem dX3_init_199 : decode cX3_init 199 = .ok (.newarray .int, 2) := dk_188_10 (dk_at dksX3_init_8 11 rfl rfl)
theorem dX3_init_201 : decode cX3_init 201 = .ok (.putfield 81, 3) := dk_181 0 81 (dk_at dksX3_init_8 13 rfl rfl)
theorem dX3_init_204 : decode cX3_init 204 = .ok (.aload_n 0, 1) := dk_42 (dk_at dksX3_init_8 16 rfl rfl)
theorem dX3_init_205 : decode cX3_init 205 = .ok (.bipush 40, 2) := dk_16 40 (dk_at dksX3_init_8 17 rfl rfl)
theorem dX3_init_207 : decode cX3_init 207 = .ok (.newarray .int, 2) := dk_188_10 (dk_at dksX3_init_8 19 rfl rfl)
theorem dX3_init_209 : decode cX3_init 209 = .ok (.putfield 84, 3) := dk_181 0 84 (dk_at dksX3_init_8 21 rfl rfl)
theorem dX3_init_212 : decode cX3_init 212 = .ok (.aload_n 0, 1) := dk_42 (dk_at dksX3_init_9 0 rfl rfl)
theorem dX3_init_213 : decode cX3_init 213 = .ok (.bipush 40, 2) := dk_16 40 (dk_at dksX3_init_9 1 rfl rfl)
theorem dX3_init_215 : decode cX3_init 215 = .ok (.newarray .int, 2) := dk_188_10 (dk_at dksX3_init_9 3 rfl rfl)
theorem dX3_init_217 : decode cX3_init 217 = .ok (.putfield 87, 3) := dk_181 0 87 (dk_at dksX3_init_9 5 rfl rfl)
theorem dX3_init_220 : decode cX3_init 220 = .ok (.aload_n 0, 1) := dk_42 (dk_at dksX3_init_9 8 rfl rfl)
theorem dX3_init_221 : decode cX3_init 221 = .ok (.bipush 40, 2) := dk_16 40 (dk_at dksX3_init_9 9 rfl rfl)
theorem dX3_init_223 : decode cX3_init 223 = .ok (.newarray .int, 2) := dk_188_10 (dk_at dksX3_init_9 11 rfl rfl)
theorem dX3_init_225 : decode cX3_init 225 = .ok (.putfield 90, 3) := dk_181 0 90 (dk_at dksX3_init_9 13 rfl rfl)
theorem dX3_init_228 : decode cX3_init 228 = .ok (.aload_n 0, 1) := dk_42 (dk_at dksX3_init_9 16 rfl rfl)
theorem dX3_init_229 : decode cX3_init 229 = .ok (.sipush 1600, 3) := dk_17 6 64 (dk_at dksX3_init_9 17 rfl rfl)
theorem dX3_init_232 : decode cX3_init 232 = .ok (.newarray .int, 2) := dk_188_10 (dk_at dksX3_init_9 20 rfl rfl)
theorem dX3_init_234 : decode cX3_init 234 = .ok (.putfield 93, 3) := dk_181 0 93 (dk_at dksX3_init_10 0 rfl rfl)
theorem dX3_init_237 : decode cX3_init 237 = .ok (.aload_n 0, 1) := dk_42 (dk_at dksX3_init_10 3 rfl rfl)
theorem dX3_init_238 : decode cX3_init 238 = .ok (.iconst (-1), 1) := dk_2 (dk_at dksX3_init_10 4 rfl rfl)
theorem dX3_init_239 : decode cX3_init 239 = .ok (.putfield 96, 3) := dk_181 0 96 (dk_at dksX3_init_10 5 rfl rfl)
theorem dX3_init_242 : decode cX3_init 242 = .ok (.aload_n 0, 1) := dk_42 (dk_at dksX3_init_10 8 rfl rfl)
theorem dX3_init_243 : decode cX3_init 243 = .ok (.getfield 7, 3) := dk_180 0 7 (dk_at dksX3_init_10 9 rfl rfl)
theorem dX3_init_246 : decode cX3_init 246 = .ok (.iconst 3, 1) := dk_6 (dk_at dksX3_init_10 12 rfl rfl)
theorem dX3_init_247 : decode cX3_init 247 = .ok (.bipush 50, 2) := dk_16 50 (dk_at dksX3_init_10 13 rfl rfl)
theorem dX3_init_249 : decode cX3_init 249 = .ok (.iastore, 1) := dk_79 (dk_at dksX3_init_10 15 rfl rfl)
theorem dX3_init_250 : decode cX3_init 250 = .ok (.return_, 1) := dk_177 (dk_at dksX3_init_10 16 rfl rfl)
abbrev cX3_thrown : ByteArray := prog_16_method_2_code
def yX3_thrown : MethodName := ⟨RX3, "thrown", "()I"⟩
theorem dX3_thrown_0 : decode cX3_thrown 0 = .ok (.aload_n 0, 1) := by decide +kernel
theorem dX3_thrown_1 : decode cX3_thrown 1 = .ok (.getfield 100, 3) := by decide +kernel
theorem dX3_thrown_4 : decode cX3_thrown 4 = .ok (.ireturn, 1) := by decide +kernel
abbrev cX3_appendText : ByteArray := prog_16_method_24_code
def yX3_appendText : MethodName := ⟨RX3, "appendText", "(I)I"⟩
def dkwX3_appendText_2 : List UInt8 := [89, 180, 0, 138, 4, 96, 181, 0, 138, 132, 2, 248, 167, 255, 223, 42, 180, 0, 138, 172]
abbrev dktX3_appendText_2 : List UInt8 := dkwX3_appendText_2 ++ []
def dkwX3_appendText_1 : List UInt8 := [16, 24, 61, 28, 155, 0, 35, 42, 180, 0, 33, 42, 180, 0, 138, 27, 28, 122, 17, 0, 255, 126, 79, 42]
abbrev dktX3_appendText_1 : List UInt8 := dkwX3_appendText_1 ++ dktX3_appendText_2
def dkwX3_appendText_0 : List UInt8 := [42, 3, 181, 0, 100, 42, 180, 0, 138, 7, 96, 17, 3, 132, 164, 0, 9, 42, 4, 182, 0, 141, 172]
abbrev dktX3_appendText_0 : List UInt8 := dkwX3_appendText_0 ++ dktX3_appendText_1
theorem dksX3_appendText_0 : cX3_appendText.data.toList.drop 0 = dktX3_appendText_0 := by decide +kernel
theorem dksX3_appendText_1 : cX3_appendText.data.toList.drop 23 = dktX3_appendText_1 := dk_seg dksX3_appendText_0 23 rfl rfl
theorem dksX3_appendText_2 : cX3_appendText.data.toList.drop 47 = dktX3_appendText_2 := dk_seg dksX3_appendText_1 24 rfl rfl
theorem dX3_appendText_0 : decode cX3_appendText 0 = .ok (.aload_n 0, 1) := dk_42 (dk_at dksX3_appendText_0 0 rfl rfl)
theorem dX3_appendText_1 : decode cX3_appendText 1 = .ok (.iconst 0, 1) := dk_3 (dk_at dksX3_appendText_0 1 rfl rfl)
theorem dX3_appendText_2 : decode cX3_appendText 2 = .ok (.putfield 100, 3) := dk_181 0 100 (dk_at dksX3_appendText_0 2 rfl rfl)
theorem dX3_appendText_5 : decode cX3_appendText 5 = .ok (.aload_n 0, 1) := dk_42 (dk_at dksX3_appendText_0 5 rfl rfl)
theorem dX3_appendText_6 : decode cX3_appendText 6 = .ok (.getfield 138, 3) := dk_180 0 138 (dk_at dksX3_appendText_0 6 rfl rfl)
theorem dX3_appendText_9 : decode cX3_appendText 9 = .ok (.iconst 4, 1) := dk_7 (dk_at dksX3_appendText_0 9 rfl rfl)
theorem dX3_appendText_10 : decode cX3_appendText 10 = .ok (.iadd, 1) := dk_96 (dk_at dksX3_appendText_0 10 rfl rfl)
theorem dX3_appendText_11 : decode cX3_appendText 11 = .ok (.sipush 900, 3) := dk_17 3 132 (dk_at dksX3_appendText_0 11 rfl rfl)
theorem dX3_appendText_14 : decode cX3_appendText 14 = .ok (.if_icmp .le 9, 3) := dk_164 0 9 (dk_at dksX3_appendText_0 14 rfl rfl)
theorem dX3_appendText_17 : decode cX3_appendText 17 = .ok (.aload_n 0, 1) := dk_42 (dk_at dksX3_appendText_0 17 rfl rfl)
theorem dX3_appendText_18 : decode cX3_appendText 18 = .ok (.iconst 1, 1) := dk_4 (dk_at dksX3_appendText_0 18 rfl rfl)
theorem dX3_appendText_19 : decode cX3_appendText 19 = .ok (.invokevirtual 141, 3) := dk_182 0 141 (dk_at dksX3_appendText_0 19 rfl rfl)
theorem dX3_appendText_22 : decode cX3_appendText 22 = .ok (.ireturn, 1) := dk_172 (dk_at dksX3_appendText_0 22 rfl rfl)
theorem dX3_appendText_23 : decode cX3_appendText 23 = .ok (.bipush 24, 2) := dk_16 24 (dk_at dksX3_appendText_1 0 rfl rfl)
theorem dX3_appendText_25 : decode cX3_appendText 25 = .ok (.istore_n 2, 1) := dk_61 (dk_at dksX3_appendText_1 2 rfl rfl)
theorem dX3_appendText_26 : decode cX3_appendText 26 = .ok (.iload_n 2, 1) := dk_28 (dk_at dksX3_appendText_1 3 rfl rfl)
theorem dX3_appendText_27 : decode cX3_appendText 27 = .ok (.ifCond .lt 35, 3) := dk_155 0 35 (dk_at dksX3_appendText_1 4 rfl rfl)
theorem dX3_appendText_30 : decode cX3_appendText 30 = .ok (.aload_n 0, 1) := dk_42 (dk_at dksX3_appendText_1 7 rfl rfl)
theorem dX3_appendText_31 : decode cX3_appendText 31 = .ok (.getfield 33, 3) := dk_180 0 33 (dk_at dksX3_appendText_1 8 rfl rfl)
theorem dX3_appendText_34 : decode cX3_appendText 34 = .ok (.aload_n 0, 1) := dk_42 (dk_at dksX3_appendText_1 11 rfl rfl)
theorem dX3_appendText_35 : decode cX3_appendText 35 = .ok (.getfield 138, 3) := dk_180 0 138 (dk_at dksX3_appendText_1 12 rfl rfl)
theorem dX3_appendText_38 : decode cX3_appendText 38 = .ok (.iload_n 1, 1) := dk_27 (dk_at dksX3_appendText_1 15 rfl rfl)
theorem dX3_appendText_39 : decode cX3_appendText 39 = .ok (.iload_n 2, 1) := dk_28 (dk_at dksX3_appendText_1 16 rfl rfl)
theorem dX3_appendText_40 : decode cX3_appendText 40 = .ok (.ishr, 1) := dk_122 (dk_at dksX3_appendText_1 17 rfl rfl)
theorem dX3_appendText_41 : decode cX3_appendText 41 = .ok (.sipush 255, 3) := dk_17 0 255 (dk_at dksX3_appendText_1 18 rfl rfl)
theorem dX3_appendText_44 : decode cX3_appendText 44 = .ok (.iand, 1) := dk_126 (dk_at dksX3_appendText_1 21 rfl rfl)
theorem dX3_appendText_45 : decode cX3_appendText 45 = .ok (.iastore, 1) := dk_79 (dk_at dksX3_appendText_1 22 rfl rfl)
theorem dX3_appendText_46 : decode cX3_appendText 46 = .ok (.aload_n 0, 1) := dk_42 (dk_at dksX3_appendText_1 23 rfl rfl)
theorem dX3_appendText_47 : decode cX3_appendText 47 = .ok (.dup, 1) := dk_89 (dk_at dksX3_appendText_2 0 rfl rfl)
theorem dX3_appendText_48 : decode cX3_appendText 48 = .ok (.getfield 138, 3) := dk_180 0 138 (dk_at dksX3_appendText_2 1 rfl rfl)
theorem dX3_appendText_51 : decode cX3_appendText 51 = .ok (.iconst 1, 1) := dk_4 (dk_at dksX3_appendText_2 4 rfl rfl)
theorem dX3_appendText_52 : decode cX3_appendText 52 = .ok (.iadd, 1) := dk_96 (dk_at dksX3_appendText_2 5 rfl rfl)
theorem dX3_appendText_53 : decode cX3_appendText 53 = .ok (.putfield 138, 3) := dk_181 0 138 (dk_at dksX3_appendText_2 6 rfl rfl)
theorem dX3_appendText_56 : decode cX3_appendText 56 = .ok (.iinc 2 (-8), 3) := dk_132 2 248 (dk_at dksX3_appendText_2 9 rfl rfl)
theorem dX3_appendText_59 : decode cX3_appendText 59 = .ok (.goto (-33), 3) := dk_167 255 223 (dk_at dksX3_appendText_2 12 rfl rfl)
theorem dX3_appendText_62 : decode cX3_appendText 62 = .ok (.aload_n 0, 1) := dk_42 (dk_at dksX3_appendText_2 15 rfl rfl)
theorem dX3_appendText_63 : decode cX3_appendText 63 = .ok (.getfield 138, 3) := dk_180 0 138 (dk_at dksX3_appendText_2 16 rfl rfl)
theorem dX3_appendText_66 : decode cX3_appendText 66 = .ok (.ireturn, 1) := dk_172 (dk_at dksX3_appendText_2 19 rfl rfl)
abbrev cX3_fail : ByteArray := prog_16_method_3_code
def yX3_fail : MethodName := ⟨RX3, "fail", "(I)I"⟩
def dkwX3_fail_0 : List UInt8 := [42, 27, 181, 0, 100, 3, 172]
abbrev dktX3_fail_0 : List UInt8 := dkwX3_fail_0 ++ []
theorem dksX3_fail_0 : cX3_fail.data.toList.drop 0 = dktX3_fail_0 := by decide +kernel
theorem dX3_fail_0 : decode cX3_fail 0 = .ok (.aload_n 0, 1) := dk_42 (dk_at dksX3_fail_0 0 rfl rfl)
theorem dX3_fail_1 : decode cX3_fail 1 = .ok (.iload_n 1, 1) := dk_27 (dk_at dksX3_fail_0 1 rfl rfl)
theorem dX3_fail_2 : decode cX3_fail 2 = .ok (.putfield 100, 3) := dk_181 0 100 (dk_at dksX3_fail_0 2 rfl rfl)
theorem dX3_fail_5 : decode cX3_fail 5 = .ok (.iconst 0, 1) := dk_3 (dk_at dksX3_fail_0 5 rfl rfl)
theorem dX3_fail_6 : decode cX3_fail 6 = .ok (.ireturn, 1) := dk_172 (dk_at dksX3_fail_0 6 rfl rfl)
abbrev cX3_truncateText : ByteArray := prog_16_method_25_code
def yX3_truncateText : MethodName := ⟨RX3, "truncateText", "(I)I"⟩
def dkwX3_truncateText_1 : List UInt8 := [27, 181, 0, 138, 42, 180, 0, 138, 172]
abbrev dktX3_truncateText_1 : List UInt8 := dkwX3_truncateText_1 ++ []
def dkwX3_truncateText_0 : List UInt8 := [42, 3, 181, 0, 100, 27, 3, 42, 180, 0, 138, 184, 0, 111, 154, 0, 9, 42, 4, 182, 0, 141, 172, 42]
abbrev dktX3_truncateText_0 : List UInt8 := dkwX3_truncateText_0 ++ dktX3_truncateText_1
theorem dksX3_truncateText_0 : cX3_truncateText.data.toList.drop 0 = dktX3_truncateText_0 := by decide +kernel
theorem dksX3_truncateText_1 : cX3_truncateText.data.toList.drop 24 = dktX3_truncateText_1 := dk_seg dksX3_truncateText_0 24 rfl rfl
theorem dX3_truncateText_0 : decode cX3_truncateText 0 = .ok (.aload_n 0, 1) := dk_42 (dk_at dksX3_truncateText_0 0 rfl rfl)
theorem dX3_truncateText_1 : decode cX3_truncateText 1 = .ok (.iconst 0, 1) := dk_3 (dk_at dksX3_truncateText_0 1 rfl rfl)
theorem dX3_truncateText_2 : decode cX3_truncateText 2 = .ok (.putfield 100, 3) := dk_181 0 100 (dk_at dksX3_truncateText_0 2 rfl rfl)
theorem dX3_truncateText_5 : decode cX3_truncateText 5 = .ok (.iload_n 1, 1) := dk_27 (dk_at dksX3_truncateText_0 5 rfl rfl)
theorem dX3_truncateText_6 : decode cX3_truncateText 6 = .ok (.iconst 0, 1) := dk_3 (dk_at dksX3_truncateText_0 6 rfl rfl)
theorem dX3_truncateText_7 : decode cX3_truncateText 7 = .ok (.aload_n 0, 1) := dk_42 (dk_at dksX3_truncateText_0 7 rfl rfl)
theorem dX3_truncateText_8 : decode cX3_truncateText 8 = .ok (.getfield 138, 3) := dk_180 0 138 (dk_at dksX3_truncateText_0 8 rfl rfl)
theorem dX3_truncateText_11 : decode cX3_truncateText 11 = .ok (.invokestatic 111, 3) := dk_184 0 111 (dk_at dksX3_truncateText_0 11 rfl rfl)
theorem dX3_truncateText_14 : decode cX3_truncateText 14 = .ok (.ifCond .ne 9, 3) := dk_154 0 9 (dk_at dksX3_truncateText_0 14 rfl rfl)
theorem dX3_truncateText_17 : decode cX3_truncateText 17 = .ok (.aload_n 0, 1) := dk_42 (dk_at dksX3_truncateText_0 17 rfl rfl)
theorem dX3_truncateText_18 : decode cX3_truncateText 18 = .ok (.iconst 1, 1) := dk_4 (dk_at dksX3_truncateText_0 18 rfl rfl)
theorem dX3_truncateText_19 : decode cX3_truncateText 19 = .ok (.invokevirtual 141, 3) := dk_182 0 141 (dk_at dksX3_truncateText_0 19 rfl rfl)
theorem dX3_truncateText_22 : decode cX3_truncateText 22 = .ok (.ireturn, 1) := dk_172 (dk_at dksX3_truncateText_0 22 rfl rfl)
theorem dX3_truncateText_23 : decode cX3_truncateText 23 = .ok (.aload_n 0, 1) := dk_42 (dk_at dksX3_truncateText_0 23 rfl rfl)
theorem dX3_truncateText_24 : decode cX3_truncateText 24 = .ok (.iload_n 1, 1) := dk_27 (dk_at dksX3_truncateText_1 0 rfl rfl)
theorem dX3_truncateText_25 : decode cX3_truncateText 25 = .ok (.putfield 138, 3) := dk_181 0 138 (dk_at dksX3_truncateText_1 1 rfl rfl)
theorem dX3_truncateText_28 : decode cX3_truncateText 28 = .ok (.aload_n 0, 1) := dk_42 (dk_at dksX3_truncateText_1 4 rfl rfl)
theorem dX3_truncateText_29 : decode cX3_truncateText 29 = .ok (.getfield 138, 3) := dk_180 0 138 (dk_at dksX3_truncateText_1 5 rfl rfl)
theorem dX3_truncateText_32 : decode cX3_truncateText 32 = .ok (.ireturn, 1) := dk_172 (dk_at dksX3_truncateText_1 8 rfl rfl)
abbrev cX3_isBetween : ByteArray := prog_16_method_4_code
def yX3_isBetween : MethodName := ⟨RX3, "isBetween", "(III)Z"⟩
def dkwX3_isBetween_0 : List UInt8 := [26, 27, 161, 0, 12, 26, 28, 163, 0, 7, 4, 167, 0, 4, 3, 172]
abbrev dktX3_isBetween_0 : List UInt8 := dkwX3_isBetween_0 ++ []
theorem dksX3_isBetween_0 : cX3_isBetween.data.toList.drop 0 = dktX3_isBetween_0 := by decide +kernel
theorem dX3_isBetween_0 : decode cX3_isBetween 0 = .ok (.iload_n 0, 1) := dk_26 (dk_at dksX3_isBetween_0 0 rfl rfl)
theorem dX3_isBetween_1 : decode cX3_isBetween 1 = .ok (.iload_n 1, 1) := dk_27 (dk_at dksX3_isBetween_0 1 rfl rfl)
theorem dX3_isBetween_2 : decode cX3_isBetween 2 = .ok (.if_icmp .lt 12, 3) := dk_161 0 12 (dk_at dksX3_isBetween_0 2 rfl rfl)
theorem dX3_isBetween_5 : decode cX3_isBetween 5 = .ok (.iload_n 0, 1) := dk_26 (dk_at dksX3_isBetween_0 5 rfl rfl)
theorem dX3_isBetween_6 : decode cX3_isBetween 6 = .ok (.iload_n 2, 1) := dk_28 (dk_at dksX3_isBetween_0 6 rfl rfl)
theorem dX3_isBetween_7 : decode cX3_isBetween 7 = .ok (.if_icmp .gt 7, 3) := dk_163 0 7 (dk_at dksX3_isBetween_0 7 rfl rfl)
theorem dX3_isBetween_10 : decode cX3_isBetween 10 = .ok (.iconst 1, 1) := dk_4 (dk_at dksX3_isBetween_0 10 rfl rfl)
theorem dX3_isBetween_11 : decode cX3_isBetween 11 = .ok (.goto 4, 3) := dk_167 0 4 (dk_at dksX3_isBetween_0 11 rfl rfl)
theorem dX3_isBetween_14 : decode cX3_isBetween 14 = .ok (.iconst 0, 1) := dk_3 (dk_at dksX3_isBetween_0 14 rfl rfl)
theorem dX3_isBetween_15 : decode cX3_isBetween 15 = .ok (.ireturn, 1) := dk_172 (dk_at dksX3_isBetween_0 15 rfl rfl)
abbrev cX3_count : ByteArray := prog_16_method_31_code
def yX3_count : MethodName := ⟨RX3, "count", "(I)I"⟩
def dkwX3_count_3 : List UInt8 := [172, 42, 182, 0, 107, 154, 0, 7, 2, 167, 0, 7, 42, 182, 0, 164, 172, 42, 4, 182, 0, 141, 172]
abbrev dktX3_count_3 : List UInt8 := dkwX3_count_3 ++ []
def dkwX3_count_2 : List UInt8 := [42, 180, 0, 7, 3, 27, 96, 46, 172, 42, 182, 0, 158, 42, 180, 0, 161, 172, 42, 180, 0, 7, 6, 46]
abbrev dktX3_count_2 : List UInt8 := dkwX3_count_2 ++ dktX3_count_3
def dkwX3_count_1 : List UInt8 := [170, 0, 0, 0, 0, 79, 0, 0, 0, 0, 0, 0, 0, 5, 0, 0, 0, 38, 0, 0, 0, 38, 0, 0, 0, 38, 0, 0, 0, 47, 0, 0, 0, 56, 0, 0, 0, 63]
abbrev dktX3_count_1 : List UInt8 := dkwX3_count_1 ++ dktX3_count_2
def dkwX3_count_0 : List UInt8 := [42, 3, 181, 0, 100, 27]
abbrev dktX3_count_0 : List UInt8 := dkwX3_count_0 ++ dktX3_count_1
theorem dksX3_count_0 : cX3_count.data.toList.drop 0 = dktX3_count_0 := by decide +kernel
theorem dksX3_count_1 : cX3_count.data.toList.drop 6 = dktX3_count_1 := dk_seg dksX3_count_0 6 rfl rfl
theorem dksX3_count_2 : cX3_count.data.toList.drop 44 = dktX3_count_2 := dk_seg dksX3_count_1 38 rfl rfl
theorem dksX3_count_3 : cX3_count.data.toList.drop 68 = dktX3_count_3 := dk_seg dksX3_count_2 24 rfl rfl
theorem dX3_count_0 : decode cX3_count 0 = .ok (.aload_n 0, 1) := dk_42 (dk_at dksX3_count_0 0 rfl rfl)
theorem dX3_count_1 : decode cX3_count 1 = .ok (.iconst 0, 1) := dk_3 (dk_at dksX3_count_0 1 rfl rfl)
theorem dX3_count_2 : decode cX3_count 2 = .ok (.putfield 100, 3) := dk_181 0 100 (dk_at dksX3_count_0 2 rfl rfl)
theorem dX3_count_5 : decode cX3_count 5 = .ok (.iload_n 1, 1) := dk_27 (dk_at dksX3_count_0 5 rfl rfl)
theorem dX3_count_6 : decode cX3_count 6 = .ok (.tableswitch 79 0 5 #[38, 38, 38, 47, 56, 63], 38) := by decide +kernel
theorem dX3_count_44 : decode cX3_count 44 = .ok (.aload_n 0, 1) := dk_42 (dk_at dksX3_count_2 0 rfl rfl)
theorem dX3_count_45 : decode cX3_count 45 = .ok (.getfield 7, 3) := dk_180 0 7 (dk_at dksX3_count_2 1 rfl rfl)
theorem dX3_count_48 : decode cX3_count 48 = .ok (.iconst 0, 1) := dk_3 (dk_at dksX3_count_2 4 rfl rfl)
theorem dX3_count_49 : decode cX3_count 49 = .ok (.iload_n 1, 1) := dk_27 (dk_at dksX3_count_2 5 rfl rfl)
theorem dX3_count_50 : decode cX3_count 50 = .ok (.iadd, 1) := dk_96 (dk_at dksX3_count_2 6 rfl rfl)
theorem dX3_count_51 : decode cX3_count 51 = .ok (.iaload, 1) := dk_46 (dk_at dksX3_count_2 7 rfl rfl)
theorem dX3_count_52 : decode cX3_count 52 = .ok (.ireturn, 1) := dk_172 (dk_at dksX3_count_2 8 rfl rfl)
theorem dX3_count_53 : decode cX3_count 53 = .ok (.aload_n 0, 1) := dk_42 (dk_at dksX3_count_2 9 rfl rfl)
theorem dX3_count_54 : decode cX3_count 54 = .ok (.invokevirtual 158, 3) := dk_182 0 158 (dk_at dksX3_count_2 10 rfl rfl)
theorem dX3_count_57 : decode cX3_count 57 = .ok (.aload_n 0, 1) := dk_42 (dk_at dksX3_count_2 13 rfl rfl)
theorem dX3_count_58 : decode cX3_count 58 = .ok (.getfield 161, 3) := dk_180 0 161 (dk_at dksX3_count_2 14 rfl rfl)
theorem dX3_count_61 : decode cX3_count 61 = .ok (.ireturn, 1) := dk_172 (dk_at dksX3_count_2 17 rfl rfl)
theorem dX3_count_62 : decode cX3_count 62 = .ok (.aload_n 0, 1) := dk_42 (dk_at dksX3_count_2 18 rfl rfl)
theorem dX3_count_63 : decode cX3_count 63 = .ok (.getfield 7, 3) := dk_180 0 7 (dk_at dksX3_count_2 19 rfl rfl)
theorem dX3_count_66 : decode cX3_count 66 = .ok (.iconst 3, 1) := dk_6 (dk_at dksX3_count_2 22 rfl rfl)
theorem dX3_count_67 : decode cX3_count 67 = .ok (.iaload, 1) := dk_46 (dk_at dksX3_count_2 23 rfl rfl)
theorem dX3_count_68 : decode cX3_count 68 = .ok (.ireturn, 1) := dk_172 (dk_at dksX3_count_3 0 rfl rfl)
theorem dX3_count_69 : decode cX3_count 69 = .ok (.aload_n 0, 1) := dk_42 (dk_at dksX3_count_3 1 rfl rfl)
theorem dX3_count_70 : decode cX3_count 70 = .ok (.invokevirtual 107, 3) := dk_182 0 107 (dk_at dksX3_count_3 2 rfl rfl)
theorem dX3_count_73 : decode cX3_count 73 = .ok (.ifCond .ne 7, 3) := dk_154 0 7 (dk_at dksX3_count_3 5 rfl rfl)
theorem dX3_count_76 : decode cX3_count 76 = .ok (.iconst (-1), 1) := dk_2 (dk_at dksX3_count_3 8 rfl rfl)
theorem dX3_count_77 : decode cX3_count 77 = .ok (.goto 7, 3) := dk_167 0 7 (dk_at dksX3_count_3 9 rfl rfl)
theorem dX3_count_80 : decode cX3_count 80 = .ok (.aload_n 0, 1) := dk_42 (dk_at dksX3_count_3 12 rfl rfl)
theorem dX3_count_81 : decode cX3_count 81 = .ok (.invokevirtual 164, 3) := dk_182 0 164 (dk_at dksX3_count_3 13 rfl rfl)
theorem dX3_count_84 : decode cX3_count 84 = .ok (.ireturn, 1) := dk_172 (dk_at dksX3_count_3 16 rfl rfl)
theorem dX3_count_85 : decode cX3_count 85 = .ok (.aload_n 0, 1) := dk_42 (dk_at dksX3_count_3 17 rfl rfl)
theorem dX3_count_86 : decode cX3_count 86 = .ok (.iconst 1, 1) := dk_4 (dk_at dksX3_count_3 18 rfl rfl)
theorem dX3_count_87 : decode cX3_count 87 = .ok (.invokevirtual 141, 3) := dk_182 0 141 (dk_at dksX3_count_3 19 rfl rfl)
theorem dX3_count_90 : decode cX3_count 90 = .ok (.ireturn, 1) := dk_172 (dk_at dksX3_count_3 22 rfl rfl)
abbrev cX3_layGroups : ByteArray := prog_16_method_77_code
def yX3_layGroups : MethodName := ⟨RX3, "layGroups", "()V"⟩
def dkwX3_layGroups_5 : List UInt8 := [42, 27, 182, 1, 32, 132, 1, 1, 167, 255, 240, 177]
abbrev dktX3_layGroups_5 : List UInt8 := dkwX3_layGroups_5 ++ []
def dkwX3_layGroups_4 : List UInt8 := [180, 0, 161, 4, 96, 181, 0, 161, 132, 1, 1, 167, 255, 220, 3, 60, 27, 42, 182, 0, 126, 162, 0, 14]
abbrev dktX3_layGroups_4 : List UInt8 := dkwX3_layGroups_4 ++ dktX3_layGroups_5
def dkwX3_layGroups_3 : List UInt8 := [182, 0, 126, 162, 0, 34, 42, 180, 0, 66, 27, 46, 2, 160, 0, 18, 42, 27, 182, 1, 29, 42, 89]
abbrev dktX3_layGroups_3 : List UInt8 := dkwX3_layGroups_3 ++ dktX3_layGroups_4
def dkwX3_layGroups_2 : List UInt8 := [180, 0, 69, 27, 2, 79, 42, 180, 0, 72, 27, 2, 79, 132, 1, 1, 167, 255, 205, 3, 60, 27, 42]
abbrev dktX3_layGroups_2 : List UInt8 := dkwX3_layGroups_2 ++ dktX3_layGroups_3
def dkwX3_layGroups_1 : List UInt8 := [42, 180, 0, 78, 27, 2, 79, 42, 180, 0, 81, 27, 3, 79, 42, 180, 0, 84, 27, 3, 79, 42]
abbrev dktX3_layGroups_1 : List UInt8 := dkwX3_layGroups_1 ++ dktX3_layGroups_2
def dkwX3_layGroups_0 : List UInt8 := [42, 182, 1, 6, 42, 3, 181, 0, 161, 3, 60, 27, 16, 40, 162, 0, 51, 42, 180, 0, 66, 27, 2, 79]
abbrev dktX3_layGroups_0 : List UInt8 := dkwX3_layGroups_0 ++ dktX3_layGroups_1
theorem dksX3_layGroups_0 : cX3_layGroups.data.toList.drop 0 = dktX3_layGroups_0 := by decide +kernel
theorem dksX3_layGroups_1 : cX3_layGroups.data.toList.drop 24 = dktX3_layGroups_1 := dk_seg dksX3_layGroups_0 24 rfl rfl
theorem dksX3_layGroups_2 : cX3_layGroups.data.toList.drop 46 = dktX3_layGroups_2 := dk_seg dksX3_layGroups_1 22 rfl rfl
theorem dksX3_layGroups_3 : cX3_layGroups.data.toList.drop 69 = dktX3_layGroups_3 := dk_seg dksX3_layGroups_2 23 rfl rfl
theorem dksX3_layGroups_4 : cX3_layGroups.data.toList.drop 92 = dktX3_layGroups_4 := dk_seg dksX3_layGroups_3 23 rfl rfl
theorem dksX3_layGroups_5 : cX3_layGroups.data.toList.drop 116 = dktX3_layGroups_5 := dk_seg dksX3_layGroups_4 24 rfl rfl
theorem dX3_layGroups_0 : decode cX3_layGroups 0 = .ok (.aload_n 0, 1) := dk_42 (dk_at dksX3_layGroups_0 0 rfl rfl)
theorem dX3_layGroups_1 : decode cX3_layGroups 1 = .ok (.invokevirtual 262, 3) := dk_182 1 6 (dk_at dksX3_layGroups_0 1 rfl rfl)
theorem dX3_layGroups_4 : decode cX3_layGroups 4 = .ok (.aload_n 0, 1) := dk_42 (dk_at dksX3_layGroups_0 4 rfl rfl)
theorem dX3_layGroups_5 : decode cX3_layGroups 5 = .ok (.iconst 0, 1) := dk_3 (dk_at dksX3_layGroups_0 5 rfl rfl)
theorem dX3_layGroups_6 : decode cX3_layGroups 6 = .ok (.putfield 161, 3) := dk_181 0 161 (dk_at dksX3_layGroups_0 6 rfl rfl)
theorem dX3_layGroups_9 : decode cX3_layGroups 9 = .ok (.iconst 0, 1) := dk_3 (dk_at dksX3_layGroups_0 9 rfl rfl)
theorem dX3_layGroups_10 : decode cX3_layGroups 10 = .ok (.istore_n 1, 1) := dk_60 (dk_at dksX3_layGroups_0 10 rfl rfl)
theorem dX3_layGroups_11 : decode cX3_layGroups 11 = .ok (.iload_n 1, 1) := dk_27 (dk_at dksX3_layGroups_0 11 rfl rfl)
theorem dX3_layGroups_12 : decode cX3_layGroups 12 = .ok (.bipush 40, 2) := dk_16 40 (dk_at dksX3_layGroups_0 12 rfl rfl)
theorem dX3_layGroups_14 : decode cX3_layGroups 14 = .ok (.if_icmp .ge 51, 3) := dk_162 0 51 (dk_at dksX3_layGroups_0 14 rfl rfl)
theorem dX3_layGroups_17 : decode cX3_layGroups 17 = .ok (.aload_n 0, 1) := dk_42 (dk_at dksX3_layGroups_0 17 rfl rfl)
theorem dX3_layGroups_18 : decode cX3_layGroups 18 = .ok (.getfield 66, 3) := dk_180 0 66 (dk_at dksX3_layGroups_0 18 rfl rfl)
theorem dX3_layGroups_21 : decode cX3_layGroups 21 = .ok (.iload_n 1, 1) := dk_27 (dk_at dksX3_layGroups_0 21 rfl rfl)
theorem dX3_layGroups_22 : decode cX3_layGroups 22 = .ok (.iconst (-1), 1) := dk_2 (dk_at dksX3_layGroups_0 22 rfl rfl)
theorem dX3_layGroups_23 : decode cX3_layGroups 23 = .ok (.iastore, 1) := dk_79 (dk_at dksX3_layGroups_0 23 rfl rfl)
theorem dX3_layGroups_24 : decode cX3_layGroups 24 = .ok (.aload_n 0, 1) := dk_42 (dk_at dksX3_layGroups_1 0 rfl rfl)
theorem dX3_layGroups_25 : decode cX3_layGroups 25 = .ok (.getfield 78, 3) := dk_180 0 78 (dk_at dksX3_layGroups_1 1 rfl rfl)
theorem dX3_layGroups_28 : decode cX3_layGroups 28 = .ok (.iload_n 1, 1) := dk_27 (dk_at dksX3_layGroups_1 4 rfl rfl)
theorem dX3_layGroups_29 : decode cX3_layGroups 29 = .ok (.iconst (-1), 1) := dk_2 (dk_at dksX3_layGroups_1 5 rfl rfl)
theorem dX3_layGroups_30 : decode cX3_layGroups 30 = .ok (.iastore, 1) := dk_79 (dk_at dksX3_layGroups_1 6 rfl rfl)
theorem dX3_layGroups_31 : decode cX3_layGroups 31 = .ok (.aload_n 0, 1) := dk_42 (dk_at dksX3_layGroups_1 7 rfl rfl)
theorem dX3_layGroups_32 : decode cX3_layGroups 32 = .ok (.getfield 81, 3) := dk_180 0 81 (dk_at dksX3_layGroups_1 8 rfl rfl)
theorem dX3_layGroups_35 : decode cX3_layGroups 35 = .ok (.iload_n 1, 1) := dk_27 (dk_at dksX3_layGroups_1 11 rfl rfl)
theorem dX3_layGroups_36 : decode cX3_layGroups 36 = .ok (.iconst 0, 1) := dk_3 (dk_at dksX3_layGroups_1 12 rfl rfl)
theorem dX3_layGroups_37 : decode cX3_layGroups 37 = .ok (.iastore, 1) := dk_79 (dk_at dksX3_layGroups_1 13 rfl rfl)
theorem dX3_layGroups_38 : decode cX3_layGroups 38 = .ok (.aload_n 0, 1) := dk_42 (dk_at dksX3_layGroups_1 14 rfl rfl)
theorem dX3_layGroups_39 : decode cX3_layGroups 39 = .ok (.getfield 84, 3) := dk_180 0 84 (dk_at dksX3_layGroups_1 15 rfl rfl)
theorem dX3_layGroups_42 : decode cX3_layGroups 42 = .ok (.iload_n 1, 1) := dk_27 (dk_at dksX3_layGroups_1 18 rfl rfl)
theorem dX3_layGroups_43 : decode cX3_layGroups 43 = .ok (.iconst 0, 1) := dk_3 (dk_at dksX3_layGroups_1 19 rfl rfl)
theorem dX3_layGroups_44 : decode cX3_layGroups 44 = .ok (.iastore, 1) := dk_79 (dk_at dksX3_layGroups_1 20 rfl rfl)
theorem dX3_layGroups_45 : decode cX3_layGroups 45 = .ok (.aload_n 0, 1) := dk_42 (dk_at dksX3_layGroups_1 21 rfl rfl)
theorem dX3_layGroups_46 : decode cX3_layGroups 46 = .ok (.getfield 69, 3) := dk_180 0 69 (dk_at dksX3_layGroups_2 0 rfl rfl)
theorem dX3_layGroups_49 : decode cX3_layGroups 49 = .ok (.iload_n 1, 1) := dk_27 (dk_at dksX3_layGroups_2 3 rfl rfl)
theorem dX3_layGroups_50 : decode cX3_layGroups 50 = .ok (.iconst (-1), 1) := dk_2 (dk_at dksX3_layGroups_2 4 rfl rfl)
theorem dX3_layGroups_51 : decode cX3_layGroups 51 = .ok (.iastore, 1) := dk_79 (dk_at dksX3_layGroups_2 5 rfl rfl)
theorem dX3_layGroups_52 : decode cX3_layGroups 52 = .ok (.aload_n 0, 1) := dk_42 (dk_at dksX3_layGroups_2 6 rfl rfl)
theorem dX3_layGroups_53 : decode cX3_layGroups 53 = .ok (.getfield 72, 3) := dk_180 0 72 (dk_at dksX3_layGroups_2 7 rfl rfl)
theorem dX3_layGroups_56 : decode cX3_layGroups 56 = .ok (.iload_n 1, 1) := dk_27 (dk_at dksX3_layGroups_2 10 rfl rfl)
theorem dX3_layGroups_57 : decode cX3_layGroups 57 = .ok (.iconst (-1), 1) := dk_2 (dk_at dksX3_layGroups_2 11 rfl rfl)
theorem dX3_layGroups_58 : decode cX3_layGroups 58 = .ok (.iastore, 1) := dk_79 (dk_at dksX3_layGroups_2 12 rfl rfl)
theorem dX3_layGroups_59 : decode cX3_layGroups 59 = .ok (.iinc 1 1, 3) := dk_132 1 1 (dk_at dksX3_layGroups_2 13 rfl rfl)
theorem dX3_layGroups_62 : decode cX3_layGroups 62 = .ok (.goto (-51), 3) := dk_167 255 205 (dk_at dksX3_layGroups_2 16 rfl rfl)
theorem dX3_layGroups_65 : decode cX3_layGroups 65 = .ok (.iconst 0, 1) := dk_3 (dk_at dksX3_layGroups_2 19 rfl rfl)
theorem dX3_layGroups_66 : decode cX3_layGroups 66 = .ok (.istore_n 1, 1) := dk_60 (dk_at dksX3_layGroups_2 20 rfl rfl)
theorem dX3_layGroups_67 : decode cX3_layGroups 67 = .ok (.iload_n 1, 1) := dk_27 (dk_at dksX3_layGroups_2 21 rfl rfl)
theorem dX3_layGroups_68 : decode cX3_layGroups 68 = .ok (.aload_n 0, 1) := dk_42 (dk_at dksX3_layGroups_2 22 rfl rfl)
theorem dX3_layGroups_69 : decode cX3_layGroups 69 = .ok (.invokevirtual 126, 3) := dk_182 0 126 (dk_at dksX3_layGroups_3 0 rfl rfl)
theorem dX3_layGroups_72 : decode cX3_layGroups 72 = .ok (.if_icmp .ge 34, 3) := dk_162 0 34 (dk_at dksX3_layGroups_3 3 rfl rfl)
theorem dX3_layGroups_75 : decode cX3_layGroups 75 = .ok (.aload_n 0, 1) := dk_42 (dk_at dksX3_layGroups_3 6 rfl rfl)
theorem dX3_layGroups_76 : decode cX3_layGroups 76 = .ok (.getfield 66, 3) := dk_180 0 66 (dk_at dksX3_layGroups_3 7 rfl rfl)
theorem dX3_layGroups_79 : decode cX3_layGroups 79 = .ok (.iload_n 1, 1) := dk_27 (dk_at dksX3_layGroups_3 10 rfl rfl)
theorem dX3_layGroups_80 : decode cX3_layGroups 80 = .ok (.iaload, 1) := dk_46 (dk_at dksX3_layGroups_3 11 rfl rfl)
theorem dX3_layGroups_81 : decode cX3_layGroups 81 = .ok (.iconst (-1), 1) := dk_2 (dk_at dksX3_layGroups_3 12 rfl rfl)
theorem dX3_layGroups_82 : decode cX3_layGroups 82 = .ok (.if_icmp .ne 18, 3) := dk_160 0 18 (dk_at dksX3_layGroups_3 13 rfl rfl)
theorem dX3_layGroups_85 : decode cX3_layGroups 85 = .ok (.aload_n 0, 1) := dk_42 (dk_at dksX3_layGroups_3 16 rfl rfl)
theorem dX3_layGroups_86 : decode cX3_layGroups 86 = .ok (.iload_n 1, 1) := dk_27 (dk_at dksX3_layGroups_3 17 rfl rfl)
theorem dX3_layGroups_87 : decode cX3_layGroups 87 = .ok (.invokevirtual 285, 3) := dk_182 1 29 (dk_at dksX3_layGroups_3 18 rfl rfl)
theorem dX3_layGroups_90 : decode cX3_layGroups 90 = .ok (.aload_n 0, 1) := dk_42 (dk_at dksX3_layGroups_3 21 rfl rfl)
theorem dX3_layGroups_91 : decode cX3_layGroups 91 = .ok (.dup, 1) := dk_89 (dk_at dksX3_layGroups_3 22 rfl rfl)
theorem dX3_layGroups_92 : decode cX3_layGroups 92 = .ok (.getfield 161, 3) := dk_180 0 161 (dk_at dksX3_layGroups_4 0 rfl rfl)
theorem dX3_layGroups_95 : decode cX3_layGroups 95 = .ok (.iconst 1, 1) := dk_4 (dk_at dksX3_layGroups_4 3 rfl rfl)
theorem dX3_layGroups_96 : decode cX3_layGroups 96 = .ok (.iadd, 1) := dk_96 (dk_at dksX3_layGroups_4 4 rfl rfl)
theorem dX3_layGroups_97 : decode cX3_layGroups 97 = .ok (.putfield 161, 3) := dk_181 0 161 (dk_at dksX3_layGroups_4 5 rfl rfl)
theorem dX3_layGroups_100 : decode cX3_layGroups 100 = .ok (.iinc 1 1, 3) := dk_132 1 1 (dk_at dksX3_layGroups_4 8 rfl rfl)
theorem dX3_layGroups_103 : decode cX3_layGroups 103 = .ok (.goto (-36), 3) := dk_167 255 220 (dk_at dksX3_layGroups_4 11 rfl rfl)
theorem dX3_layGroups_106 : decode cX3_layGroups 106 = .ok (.iconst 0, 1) := dk_3 (dk_at dksX3_layGroups_4 14 rfl rfl)
theorem dX3_layGroups_107 : decode cX3_layGroups 107 = .ok (.istore_n 1, 1) := dk_60 (dk_at dksX3_layGroups_4 15 rfl rfl)
theorem dX3_layGroups_108 : decode cX3_layGroups 108 = .ok (.iload_n 1, 1) := dk_27 (dk_at dksX3_layGroups_4 16 rfl rfl)
theorem dX3_layGroups_109 : decode cX3_layGroups 109 = .ok (.aload_n 0, 1) := dk_42 (dk_at dksX3_layGroups_4 17 rfl rfl)
theorem dX3_layGroups_110 : decode cX3_layGroups 110 = .ok (.invokevirtual 126, 3) := dk_182 0 126 (dk_at dksX3_layGroups_4 18 rfl rfl)
theorem dX3_layGroups_113 : decode cX3_layGroups 113 = .ok (.if_icmp .ge 14, 3) := dk_162 0 14 (dk_at dksX3_layGroups_4 21 rfl rfl)
theorem dX3_layGroups_116 : decode cX3_layGroups 116 = .ok (.aload_n 0, 1) := dk_42 (dk_at dksX3_layGroups_5 0 rfl rfl)
theorem dX3_layGroups_117 : decode cX3_layGroups 117 = .ok (.iload_n 1, 1) := dk_27 (dk_at dksX3_layGroups_5 1 rfl rfl)
theorem dX3_layGroups_118 : decode cX3_layGroups 118 = .ok (.invokevirtual 288, 3) := dk_182 1 32 (dk_at dksX3_layGroups_5 2 rfl rfl)
theorem dX3_layGroups_121 : decode cX3_layGroups 121 = .ok (.iinc 1 1, 3) := dk_132 1 1 (dk_at dksX3_layGroups_5 5 rfl rfl)
theorem dX3_layGroups_124 : decode cX3_layGroups 124 = .ok (.goto (-16), 3) := dk_167 255 240 (dk_at dksX3_layGroups_5 8 rfl rfl)
theorem dX3_layGroups_127 : decode cX3_layGroups 127 = .ok (.return_, 1) := dk_177 (dk_at dksX3_layGroups_5 11 rfl rfl)
abbrev cX3_layAnchors : ByteArray := prog_16_method_65_code
def yX3_layAnchors : MethodName := ⟨RX3, "layAnchors", "()V"⟩
def dkwX3_layAnchors_2 : List UInt8 := [132, 1, 1, 167, 255, 209, 177]
abbrev dktX3_layAnchors_2 : List UInt8 := dkwX3_layAnchors_2 ++ []
def dkwX3_layAnchors_1 : List UInt8 := [162, 0, 24, 42, 28, 5, 182, 0, 205, 27, 160, 0, 8, 42, 28, 182, 1, 3, 132, 2, 1, 167, 255, 230]
abbrev dktX3_layAnchors_1 : List UInt8 := dkwX3_layAnchors_1 ++ dktX3_layAnchors_2
def dkwX3_layAnchors_0 : List UInt8 := [3, 60, 27, 42, 182, 0, 107, 162, 0, 45, 42, 27, 182, 0, 252, 3, 61, 28, 42, 182, 0, 126]
abbrev dktX3_layAnchors_0 : List UInt8 := dkwX3_layAnchors_0 ++ dktX3_layAnchors_1
theorem dksX3_layAnchors_0 : cX3_layAnchors.data.toList.drop 0 = dktX3_layAnchors_0 := by decide +kernel
theorem dksX3_layAnchors_1 : cX3_layAnchors.data.toList.drop 22 = dktX3_layAnchors_1 := dk_seg dksX3_layAnchors_0 22 rfl rfl
theorem dksX3_layAnchors_2 : cX3_layAnchors.data.toList.drop 46 = dktX3_layAnchors_2 := dk_seg dksX3_layAnchors_1 24 rfl rfl
theorem dX3_layAnchors_0 : decode cX3_layAnchors 0 = .ok (.iconst 0, 1) := dk_3 (dk_at dksX3_layAnchors_0 0 rfl rfl)
theorem dX3_layAnchors_1 : decode cX3_layAnchors 1 = .ok (.istore_n 1, 1) := dk_60 (dk_at dksX3_layAnchors_0 1 rfl rfl)
theorem dX3_layAnchors_2 : decode cX3_layAnchors 2 = .ok (.iload_n 1, 1) := dk_27 (dk_at dksX3_layAnchors_0 2 rfl rfl)
theorem dX3_layAnchors_3 : decode cX3_layAnchors 3 = .ok (.aload_n 0, 1) := dk_42 (dk_at dksX3_layAnchors_0 3 rfl rfl)
theorem dX3_layAnchors_4 : decode cX3_layAnchors 4 = .ok (.invokevirtual 107, 3) := dk_182 0 107 (dk_at dksX3_layAnchors_0 4 rfl rfl)
theorem dX3_layAnchors_7 : decode cX3_layAnchors 7 = .ok (.if_icmp .ge 45, 3) := dk_162 0 45 (dk_at dksX3_layAnchors_0 7 rfl rfl)
theorem dX3_layAnchors_10 : decode cX3_layAnchors 10 = .ok (.aload_n 0, 1) := dk_42 (dk_at dksX3_layAnchors_0 10 rfl rfl)
theorem dX3_layAnchors_11 : decode cX3_layAnchors 11 = .ok (.iload_n 1, 1) := dk_27 (dk_at dksX3_layAnchors_0 11 rfl rfl)
theorem dX3_layAnchors_12 : decode cX3_layAnchors 12 = .ok (.invokevirtual 252, 3) := dk_182 0 252 (dk_at dksX3_layAnchors_0 12 rfl rfl)
theorem dX3_layAnchors_15 : decode cX3_layAnchors 15 = .ok (.iconst 0, 1) := dk_3 (dk_at dksX3_layAnchors_0 15 rfl rfl)
theorem dX3_layAnchors_16 : decode cX3_layAnchors 16 = .ok (.istore_n 2, 1) := dk_61 (dk_at dksX3_layAnchors_0 16 rfl rfl)
theorem dX3_layAnchors_17 : decode cX3_layAnchors 17 = .ok (.iload_n 2, 1) := dk_28 (dk_at dksX3_layAnchors_0 17 rfl rfl)
theorem dX3_layAnchors_18 : decode cX3_layAnchors 18 = .ok (.aload_n 0, 1) := dk_42 (dk_at dksX3_layAnchors_0 18 rfl rfl)
theorem dX3_layAnchors_19 : decode cX3_layAnchors 19 = .ok (.invokevirtual 126, 3) := dk_182 0 126 (dk_at dksX3_layAnchors_0 19 rfl rfl)
theorem dX3_layAnchors_22 : decode cX3_layAnchors 22 = .ok (.if_icmp .ge 24, 3) := dk_162 0 24 (dk_at dksX3_layAnchors_1 0 rfl rfl)
theorem dX3_layAnchors_25 : decode cX3_layAnchors 25 = .ok (.aload_n 0, 1) := dk_42 (dk_at dksX3_layAnchors_1 3 rfl rfl)
theorem dX3_layAnchors_26 : decode cX3_layAnchors 26 = .ok (.iload_n 2, 1) := dk_28 (dk_at dksX3_layAnchors_1 4 rfl rfl)
theorem dX3_layAnchors_27 : decode cX3_layAnchors 27 = .ok (.iconst 2, 1) := dk_5 (dk_at dksX3_layAnchors_1 5 rfl rfl)
theorem dX3_layAnchors_28 : decode cX3_layAnchors 28 = .ok (.invokevirtual 205, 3) := dk_182 0 205 (dk_at dksX3_layAnchors_1 6 rfl rfl)
theorem dX3_layAnchors_31 : decode cX3_layAnchors 31 = .ok (.iload_n 1, 1) := dk_27 (dk_at dksX3_layAnchors_1 9 rfl rfl)
theorem dX3_layAnchors_32 : decode cX3_layAnchors 32 = .ok (.if_icmp .ne 8, 3) := dk_160 0 8 (dk_at dksX3_layAnchors_1 10 rfl rfl)
theorem dX3_layAnchors_35 : decode cX3_layAnchors 35 = .ok (.aload_n 0, 1) := dk_42 (dk_at dksX3_layAnchors_1 13 rfl rfl)
theorem dX3_layAnchors_36 : decode cX3_layAnchors 36 = .ok (.iload_n 2, 1) := dk_28 (dk_at dksX3_layAnchors_1 14 rfl rfl)
theorem dX3_layAnchors_37 : decode cX3_layAnchors 37 = .ok (.invokevirtual 259, 3) := dk_182 1 3 (dk_at dksX3_layAnchors_1 15 rfl rfl)
theorem dX3_layAnchors_40 : decode cX3_layAnchors 40 = .ok (.iinc 2 1, 3) := dk_132 2 1 (dk_at dksX3_layAnchors_1 18 rfl rfl)
theorem dX3_layAnchors_43 : decode cX3_layAnchors 43 = .ok (.goto (-26), 3) := dk_167 255 230 (dk_at dksX3_layAnchors_1 21 rfl rfl)
theorem dX3_layAnchors_46 : decode cX3_layAnchors 46 = .ok (.iinc 1 1, 3) := dk_132 1 1 (dk_at dksX3_layAnchors_2 0 rfl rfl)
theorem dX3_layAnchors_49 : decode cX3_layAnchors 49 = .ok (.goto (-47), 3) := dk_167 255 209 (dk_at dksX3_layAnchors_2 3 rfl rfl)
theorem dX3_layAnchors_52 : decode cX3_layAnchors 52 = .ok (.return_, 1) := dk_177 (dk_at dksX3_layAnchors_2 6 rfl rfl)
abbrev cX3_editions : ByteArray := prog_16_method_7_code
def yX3_editions : MethodName := ⟨RX3, "editions", "()I"⟩
def dkwX3_editions_0 : List UInt8 := [42, 180, 0, 7, 3, 46, 172]
abbrev dktX3_editions_0 : List UInt8 := dkwX3_editions_0 ++ []
theorem dksX3_editions_0 : cX3_editions.data.toList.drop 0 = dktX3_editions_0 := by decide +kernel
theorem dX3_editions_0 : decode cX3_editions 0 = .ok (.aload_n 0, 1) := dk_42 (dk_at dksX3_editions_0 0 rfl rfl)
theorem dX3_editions_1 : decode cX3_editions 1 = .ok (.getfield 7, 3) := dk_180 0 7 (dk_at dksX3_editions_0 1 rfl rfl)
theorem dX3_editions_4 : decode cX3_editions 4 = .ok (.iconst 0, 1) := dk_3 (dk_at dksX3_editions_0 4 rfl rfl)
theorem dX3_editions_5 : decode cX3_editions 5 = .ok (.iaload, 1) := dk_46 (dk_at dksX3_editions_0 5 rfl rfl)
theorem dX3_editions_6 : decode cX3_editions 6 = .ok (.ireturn, 1) := dk_172 (dk_at dksX3_editions_0 6 rfl rfl)
abbrev cX3_align : ByteArray := prog_16_method_60_code
def yX3_align : MethodName := ⟨RX3, "align", "(I)V"⟩
def dkwX3_align_6 : List UInt8 := [132, 2, 1, 167, 255, 170, 132, 3, 1, 167, 255, 164, 177]
abbrev dktX3_align_6 : List UInt8 := dkwX3_align_6 ++ []
def dkwX3_align_5 : List UInt8 := [4, 96, 29, 184, 0, 243, 46, 42, 180, 0, 48, 28, 29, 4, 96, 184, 0, 243, 46, 161, 0, 9]
abbrev dktX3_align_5 : List UInt8 := dkwX3_align_5 ++ dktX3_align_6
def dkwX3_align_4 : List UInt8 := [154, 0, 19, 42, 180, 0, 51, 28, 29, 79, 132, 2, 1, 132, 3, 1, 167, 255, 203, 42, 180, 0, 48, 28]
abbrev dktX3_align_4 : List UInt8 := dkwX3_align_4 ++ dktX3_align_5
def dkwX3_align_3 : List UInt8 := [182, 0, 119, 162, 0, 77, 42, 27, 28, 182, 0, 181, 42, 42, 182, 0, 164, 29, 182, 0, 181, 148]
abbrev dktX3_align_3 : List UInt8 := dkwX3_align_3 ++ dktX3_align_4
def dkwX3_align_2 : List UInt8 := [182, 0, 249, 3, 61, 3, 62, 28, 42, 27, 182, 0, 119, 162, 0, 89, 29, 42, 42, 182, 0, 164]
abbrev dktX3_align_2 : List UInt8 := dkwX3_align_2 ++ dktX3_align_3
def dkwX3_align_1 : List UInt8 := [28, 167, 0, 4, 2, 79, 132, 2, 1, 167, 255, 225, 27, 42, 182, 0, 164, 160, 0, 4, 177, 42, 27]
abbrev dktX3_align_1 : List UInt8 := dkwX3_align_1 ++ dktX3_align_2
def dkwX3_align_0 : List UInt8 := [3, 61, 28, 42, 27, 182, 0, 119, 162, 0, 28, 42, 180, 0, 51, 28, 27, 42, 182, 0, 164, 160, 0, 7]
abbrev dktX3_align_0 : List UInt8 := dkwX3_align_0 ++ dktX3_align_1
theorem dksX3_align_0 : cX3_align.data.toList.drop 0 = dktX3_align_0 := by decide +kernel
theorem dksX3_align_1 : cX3_align.data.toList.drop 24 = dktX3_align_1 := dk_seg dksX3_align_0 24 rfl rfl
theorem dksX3_align_2 : cX3_align.data.toList.drop 47 = dktX3_align_2 := dk_seg dksX3_align_1 23 rfl rfl
theorem dksX3_align_3 : cX3_align.data.toList.drop 69 = dktX3_align_3 := dk_seg dksX3_align_2 22 rfl rfl
theorem dksX3_align_4 : cX3_align.data.toList.drop 91 = dktX3_align_4 := dk_seg dksX3_align_3 22 rfl rfl
theorem dksX3_align_5 : cX3_align.data.toList.drop 115 = dktX3_align_5 := dk_seg dksX3_align_4 24 rfl rfl
theorem dksX3_align_6 : cX3_align.data.toList.drop 137 = dktX3_align_6 := dk_seg dksX3_align_5 22 rfl rfl
theorem dX3_align_0 : decode cX3_align 0 = .ok (.iconst 0, 1) := dk_3 (dk_at dksX3_align_0 0 rfl rfl)
theorem dX3_align_1 : decode cX3_align 1 = .ok (.istore_n 2, 1) := dk_61 (dk_at dksX3_align_0 1 rfl rfl)
theorem dX3_align_2 : decode cX3_align 2 = .ok (.iload_n 2, 1) := dk_28 (dk_at dksX3_align_0 2 rfl rfl)
theorem dX3_align_3 : decode cX3_align 3 = .ok (.aload_n 0, 1) := dk_42 (dk_at dksX3_align_0 3 rfl rfl)
theorem dX3_align_4 : decode cX3_align 4 = .ok (.iload_n 1, 1) := dk_27 (dk_at dksX3_align_0 4 rfl rfl)
theorem dX3_align_5 : decode cX3_align 5 = .ok (.invokevirtual 119, 3) := dk_182 0 119 (dk_at dksX3_align_0 5 rfl rfl)
theorem dX3_align_8 : decode cX3_align 8 = .ok (.if_icmp .ge 28, 3) := dk_162 0 28 (dk_at dksX3_align_0 8 rfl rfl)
theorem dX3_align_11 : decode cX3_align 11 = .ok (.aload_n 0, 1) := dk_42 (dk_at dksX3_align_0 11 rfl rfl)
theorem dX3_align_12 : decode cX3_align 12 = .ok (.getfield 51, 3) := dk_180 0 51 (dk_at dksX3_align_0 12 rfl rfl)
theorem dX3_align_15 : decode cX3_align 15 = .ok (.iload_n 2, 1) := dk_28 (dk_at dksX3_align_0 15 rfl rfl)
theorem dX3_align_16 : decode cX3_align 16 = .ok (.iload_n 1, 1) := dk_27 (dk_at dksX3_align_0 16 rfl rfl)
theorem dX3_align_17 : decode cX3_align 17 = .ok (.aload_n 0, 1) := dk_42 (dk_at dksX3_align_0 17 rfl rfl)
theorem dX3_align_18 : decode cX3_align 18 = .ok (.invokevirtual 164, 3) := dk_182 0 164 (dk_at dksX3_align_0 18 rfl rfl)
theorem dX3_align_21 : decode cX3_align 21 = .ok (.if_icmp .ne 7, 3) := dk_160 0 7 (dk_at dksX3_align_0 21 rfl rfl)
theorem dX3_align_24 : decode cX3_align 24 = .ok (.iload_n 2, 1) := dk_28 (dk_at dksX3_align_1 0 rfl rfl)
theorem dX3_align_25 : decode cX3_align 25 = .ok (.goto 4, 3) := dk_167 0 4 (dk_at dksX3_align_1 1 rfl rfl)
theorem dX3_align_28 : decode cX3_align 28 = .ok (.iconst (-1), 1) := dk_2 (dk_at dksX3_align_1 4 rfl rfl)
theorem dX3_align_29 : decode cX3_align 29 = .ok (.iastore, 1) := dk_79 (dk_at dksX3_align_1 5 rfl rfl)
theorem dX3_align_30 : decode cX3_align 30 = .ok (.iinc 2 1, 3) := dk_132 2 1 (dk_at dksX3_align_1 6 rfl rfl)
theorem dX3_align_33 : decode cX3_align 33 = .ok (.goto (-31), 3) := dk_167 255 225 (dk_at dksX3_align_1 9 rfl rfl)
theorem dX3_align_36 : decode cX3_align 36 = .ok (.iload_n 1, 1) := dk_27 (dk_at dksX3_align_1 12 rfl rfl)
theorem dX3_align_37 : decode cX3_align 37 = .ok (.aload_n 0, 1) := dk_42 (dk_at dksX3_align_1 13 rfl rfl)
theorem dX3_align_38 : decode cX3_align 38 = .ok (.invokevirtual 164, 3) := dk_182 0 164 (dk_at dksX3_align_1 14 rfl rfl)
theorem dX3_align_41 : decode cX3_align 41 = .ok (.if_icmp .ne 4, 3) := dk_160 0 4 (dk_at dksX3_align_1 17 rfl rfl)
theorem dX3_align_44 : decode cX3_align 44 = .ok (.return_, 1) := dk_177 (dk_at dksX3_align_1 20 rfl rfl)
theorem dX3_align_45 : decode cX3_align 45 = .ok (.aload_n 0, 1) := dk_42 (dk_at dksX3_align_1 21 rfl rfl)
theorem dX3_align_46 : decode cX3_align 46 = .ok (.iload_n 1, 1) := dk_27 (dk_at dksX3_align_1 22 rfl rfl)
theorem dX3_align_47 : decode cX3_align 47 = .ok (.invokevirtual 249, 3) := dk_182 0 249 (dk_at dksX3_align_2 0 rfl rfl)
theorem dX3_align_50 : decode cX3_align 50 = .ok (.iconst 0, 1) := dk_3 (dk_at dksX3_align_2 3 rfl rfl)
theorem dX3_align_51 : decode cX3_align 51 = .ok (.istore_n 2, 1) := dk_61 (dk_at dksX3_align_2 4 rfl rfl)
theorem dX3_align_52 : decode cX3_align 52 = .ok (.iconst 0, 1) := dk_3 (dk_at dksX3_align_2 5 rfl rfl)
theorem dX3_align_53 : decode cX3_align 53 = .ok (.istore_n 3, 1) := dk_62 (dk_at dksX3_align_2 6 rfl rfl)
theorem dX3_align_54 : decode cX3_align 54 = .ok (.iload_n 2, 1) := dk_28 (dk_at dksX3_align_2 7 rfl rfl)
theorem dX3_align_55 : decode cX3_align 55 = .ok (.aload_n 0, 1) := dk_42 (dk_at dksX3_align_2 8 rfl rfl)
theorem dX3_align_56 : decode cX3_align 56 = .ok (.iload_n 1, 1) := dk_27 (dk_at dksX3_align_2 9 rfl rfl)
theorem dX3_align_57 : decode cX3_align 57 = .ok (.invokevirtual 119, 3) := dk_182 0 119 (dk_at dksX3_align_2 10 rfl rfl)
theorem dX3_align_60 : decode cX3_align 60 = .ok (.if_icmp .ge 89, 3) := dk_162 0 89 (dk_at dksX3_align_2 13 rfl rfl)
theorem dX3_align_63 : decode cX3_align 63 = .ok (.iload_n 3, 1) := dk_29 (dk_at dksX3_align_2 16 rfl rfl)
theorem dX3_align_64 : decode cX3_align 64 = .ok (.aload_n 0, 1) := dk_42 (dk_at dksX3_align_2 17 rfl rfl)
theorem dX3_align_65 : decode cX3_align 65 = .ok (.aload_n 0, 1) := dk_42 (dk_at dksX3_align_2 18 rfl rfl)
theorem dX3_align_66 : decode cX3_align 66 = .ok (.invokevirtual 164, 3) := dk_182 0 164 (dk_at dksX3_align_2 19 rfl rfl)
theorem dX3_align_69 : decode cX3_align 69 = .ok (.invokevirtual 119, 3) := dk_182 0 119 (dk_at dksX3_align_3 0 rfl rfl)
theorem dX3_align_72 : decode cX3_align 72 = .ok (.if_icmp .ge 77, 3) := dk_162 0 77 (dk_at dksX3_align_3 3 rfl rfl)
theorem dX3_align_75 : decode cX3_align 75 = .ok (.aload_n 0, 1) := dk_42 (dk_at dksX3_align_3 6 rfl rfl)
theorem dX3_align_76 : decode cX3_align 76 = .ok (.iload_n 1, 1) := dk_27 (dk_at dksX3_align_3 7 rfl rfl)
theorem dX3_align_77 : decode cX3_align 77 = .ok (.iload_n 2, 1) := dk_28 (dk_at dksX3_align_3 8 rfl rfl)
theorem dX3_align_78 : decode cX3_align 78 = .ok (.invokevirtual 181, 3) := dk_182 0 181 (dk_at dksX3_align_3 9 rfl rfl)
theorem dX3_align_81 : decode cX3_align 81 = .ok (.aload_n 0, 1) := dk_42 (dk_at dksX3_align_3 12 rfl rfl)
theorem dX3_align_82 : decode cX3_align 82 = .ok (.aload_n 0, 1) := dk_42 (dk_at dksX3_align_3 13 rfl rfl)
theorem dX3_align_83 : decode cX3_align 83 = .ok (.invokevirtual 164, 3) := dk_182 0 164 (dk_at dksX3_align_3 14 rfl rfl)
theorem dX3_align_86 : decode cX3_align 86 = .ok (.iload_n 3, 1) := dk_29 (dk_at dksX3_align_3 17 rfl rfl)
theorem dX3_align_87 : decode cX3_align 87 = .ok (.invokevirtual 181, 3) := dk_182 0 181 (dk_at dksX3_align_3 18 rfl rfl)
theorem dX3_align_90 : decode cX3_align 90 = .ok (.lcmp, 1) := dk_148 (dk_at dksX3_align_3 21 rfl rfl)
theorem dX3_align_91 : decode cX3_align 91 = .ok (.ifCond .ne 19, 3) := dk_154 0 19 (dk_at dksX3_align_4 0 rfl rfl)
theorem dX3_align_94 : decode cX3_align 94 = .ok (.aload_n 0, 1) := dk_42 (dk_at dksX3_align_4 3 rfl rfl)
theorem dX3_align_95 : decode cX3_align 95 = .ok (.getfield 51, 3) := dk_180 0 51 (dk_at dksX3_align_4 4 rfl rfl)
theorem dX3_align_98 : decode cX3_align 98 = .ok (.iload_n 2, 1) := dk_28 (dk_at dksX3_align_4 7 rfl rfl)
theorem dX3_align_99 : decode cX3_align 99 = .ok (.iload_n 3, 1) := dk_29 (dk_at dksX3_align_4 8 rfl rfl)
theorem dX3_align_100 : decode cX3_align 100 = .ok (.iastore, 1) := dk_79 (dk_at dksX3_align_4 9 rfl rfl)
theorem dX3_align_101 : decode cX3_align 101 = .ok (.iinc 2 1, 3) := dk_132 2 1 (dk_at dksX3_align_4 10 rfl rfl)
theorem dX3_align_104 : decode cX3_align 104 = .ok (.iinc 3 1, 3) := dk_132 3 1 (dk_at dksX3_align_4 13 rfl rfl)
theorem dX3_align_107 : decode cX3_align 107 = .ok (.goto (-53), 3) := dk_167 255 203 (dk_at dksX3_align_4 16 rfl rfl)
theorem dX3_align_110 : decode cX3_align 110 = .ok (.aload_n 0, 1) := dk_42 (dk_at dksX3_align_4 19 rfl rfl)
theorem dX3_align_111 : decode cX3_align 111 = .ok (.getfield 48, 3) := dk_180 0 48 (dk_at dksX3_align_4 20 rfl rfl)
theorem dX3_align_114 : decode cX3_align 114 = .ok (.iload_n 2, 1) := dk_28 (dk_at dksX3_align_4 23 rfl rfl)
theorem dX3_align_115 : decode cX3_align 115 = .ok (.iconst 1, 1) := dk_4 (dk_at dksX3_align_5 0 rfl rfl)
theorem dX3_align_116 : decode cX3_align 116 = .ok (.iadd, 1) := dk_96 (dk_at dksX3_align_5 1 rfl rfl)
theorem dX3_align_117 : decode cX3_align 117 = .ok (.iload_n 3, 1) := dk_29 (dk_at dksX3_align_5 2 rfl rfl)
theorem dX3_align_118 : decode cX3_align 118 = .ok (.invokestatic 243, 3) := dk_184 0 243 (dk_at dksX3_align_5 3 rfl rfl)
theorem dX3_align_121 : decode cX3_align 121 = .ok (.iaload, 1) := dk_46 (dk_at dksX3_align_5 6 rfl rfl)
theorem dX3_align_122 : decode cX3_align 122 = .ok (.aload_n 0, 1) := dk_42 (dk_at dksX3_align_5 7 rfl rfl)
theorem dX3_align_123 : decode cX3_align 123 = .ok (.getfield 48, 3) := dk_180 0 48 (dk_at dksX3_align_5 8 rfl rfl)
theorem dX3_align_126 : decode cX3_align 126 = .ok (.iload_n 2, 1) := dk_28 (dk_at dksX3_align_5 11 rfl rfl)
theorem dX3_align_127 : decode cX3_align 127 = .ok (.iload_n 3, 1) := dk_29 (dk_at dksX3_align_5 12 rfl rfl)
theorem dX3_align_128 : decode cX3_align 128 = .ok (.iconst 1, 1) := dk_4 (dk_at dksX3_align_5 13 rfl rfl)
theorem dX3_align_129 : decode cX3_align 129 = .ok (.iadd, 1) := dk_96 (dk_at dksX3_align_5 14 rfl rfl)
theorem dX3_align_130 : decode cX3_align 130 = .ok (.invokestatic 243, 3) := dk_184 0 243 (dk_at dksX3_align_5 15 rfl rfl)
theorem dX3_align_133 : decode cX3_align 133 = .ok (.iaload, 1) := dk_46 (dk_at dksX3_align_5 18 rfl rfl)
theorem dX3_align_134 : decode cX3_align 134 = .ok (.if_icmp .lt 9, 3) := dk_161 0 9 (dk_at dksX3_align_5 19 rfl rfl)
theorem dX3_align_137 : decode cX3_align 137 = .ok (.iinc 2 1, 3) := dk_132 2 1 (dk_at dksX3_align_6 0 rfl rfl)
theorem dX3_align_140 : decode cX3_align 140 = .ok (.goto (-86), 3) := dk_167 255 170 (dk_at dksX3_align_6 3 rfl rfl)
theorem dX3_align_143 : decode cX3_align 143 = .ok (.iinc 3 1, 3) := dk_132 3 1 (dk_at dksX3_align_6 6 rfl rfl)
theorem dX3_align_146 : decode cX3_align 146 = .ok (.goto (-92), 3) := dk_167 255 164 (dk_at dksX3_align_6 9 rfl rfl)
theorem dX3_align_149 : decode cX3_align 149 = .ok (.return_, 1) := dk_177 (dk_at dksX3_align_6 12 rfl rfl)
abbrev cX3_sizeOf : ByteArray := prog_16_method_12_code
def yX3_sizeOf : MethodName := ⟨RX3, "sizeOf", "(I)I"⟩
def dkwX3_sizeOf_0 : List UInt8 := [42, 27, 3, 182, 0, 103, 172]
abbrev dktX3_sizeOf_0 : List UInt8 := dkwX3_sizeOf_0 ++ []
theorem dksX3_sizeOf_0 : cX3_sizeOf.data.toList.drop 0 = dktX3_sizeOf_0 := by decide +kernel
theorem dX3_sizeOf_0 : decode cX3_sizeOf 0 = .ok (.aload_n 0, 1) := dk_42 (dk_at dksX3_sizeOf_0 0 rfl rfl)
theorem dX3_sizeOf_1 : decode cX3_sizeOf 1 = .ok (.iload_n 1, 1) := dk_27 (dk_at dksX3_sizeOf_0 1 rfl rfl)
theorem dX3_sizeOf_2 : decode cX3_sizeOf 2 = .ok (.iconst 0, 1) := dk_3 (dk_at dksX3_sizeOf_0 2 rfl rfl)
theorem dX3_sizeOf_3 : decode cX3_sizeOf 3 = .ok (.invokevirtual 103, 3) := dk_182 0 103 (dk_at dksX3_sizeOf_0 3 rfl rfl)
theorem dX3_sizeOf_6 : decode cX3_sizeOf 6 = .ok (.ireturn, 1) := dk_172 (dk_at dksX3_sizeOf_0 6 rfl rfl)
abbrev cX3_ofEdition : ByteArray := prog_16_method_11_code
def yX3_ofEdition : MethodName := ⟨RX3, "ofEdition", "(II)I"⟩
def dkwX3_ofEdition_0 : List UInt8 := [42, 180, 0, 7, 8, 6, 27, 104, 96, 28, 96, 46, 172]
abbrev dktX3_ofEdition_0 : List UInt8 := dkwX3_ofEdition_0 ++ []
theorem dksX3_ofEdition_0 : cX3_ofEdition.data.toList.drop 0 = dktX3_ofEdition_0 := by decide +kernel
theorem dX3_ofEdition_0 : decode cX3_ofEdition 0 = .ok (.aload_n 0, 1) := dk_42 (dk_at dksX3_ofEdition_0 0 rfl rfl)
theorem dX3_ofEdition_1 : decode cX3_ofEdition 1 = .ok (.getfield 7, 3) := dk_180 0 7 (dk_at dksX3_ofEdition_0 1 rfl rfl)
theorem dX3_ofEdition_4 : decode cX3_ofEdition 4 = .ok (.iconst 5, 1) := dk_8 (dk_at dksX3_ofEdition_0 4 rfl rfl)
theorem dX3_ofEdition_5 : decode cX3_ofEdition 5 = .ok (.iconst 3, 1) := dk_6 (dk_at dksX3_ofEdition_0 5 rfl rfl)
theorem dX3_ofEdition_6 : decode cX3_ofEdition 6 = .ok (.iload_n 1, 1) := dk_27 (dk_at dksX3_ofEdition_0 6 rfl rfl)
theorem dX3_ofEdition_7 : decode cX3_ofEdition 7 = .ok (.imul, 1) := dk_104 (dk_at dksX3_ofEdition_0 7 rfl rfl)
theorem dX3_ofEdition_8 : decode cX3_ofEdition 8 = .ok (.iadd, 1) := dk_96 (dk_at dksX3_ofEdition_0 8 rfl rfl)
theorem dX3_ofEdition_9 : decode cX3_ofEdition 9 = .ok (.iload_n 2, 1) := dk_28 (dk_at dksX3_ofEdition_0 9 rfl rfl)
theorem dX3_ofEdition_10 : decode cX3_ofEdition 10 = .ok (.iadd, 1) := dk_96 (dk_at dksX3_ofEdition_0 10 rfl rfl)
theorem dX3_ofEdition_11 : decode cX3_ofEdition 11 = .ok (.iaload, 1) := dk_46 (dk_at dksX3_ofEdition_0 11 rfl rfl)
theorem dX3_ofEdition_12 : decode cX3_ofEdition 12 = .ok (.ireturn, 1) := dk_172 (dk_at dksX3_ofEdition_0 12 rfl rfl)
abbrev cX3_target : ByteArray := prog_16_method_10_code
def yX3_target : MethodName := ⟨RX3, "target", "()I"⟩
def dkwX3_target_0 : List UInt8 := [42, 180, 0, 7, 7, 46, 172]
abbrev dktX3_target_0 : List UInt8 := dkwX3_target_0 ++ []
theorem dksX3_target_0 : cX3_target.data.toList.drop 0 = dktX3_target_0 := by decide +kernel
theorem dX3_target_0 : decode cX3_target 0 = .ok (.aload_n 0, 1) := dk_42 (dk_at dksX3_target_0 0 rfl rfl)
theorem dX3_target_1 : decode cX3_target 1 = .ok (.getfield 7, 3) := dk_180 0 7 (dk_at dksX3_target_0 1 rfl rfl)
theorem dX3_target_4 : decode cX3_target 4 = .ok (.iconst 4, 1) := dk_7 (dk_at dksX3_target_0 4 rfl rfl)
theorem dX3_target_5 : decode cX3_target 5 = .ok (.iaload, 1) := dk_46 (dk_at dksX3_target_0 5 rfl rfl)
theorem dX3_target_6 : decode cX3_target 6 = .ok (.ireturn, 1) := dk_172 (dk_at dksX3_target_0 6 rfl rfl)
abbrev cX3_layCommon : ByteArray := prog_16_method_59_code
def yX3_layCommon : MethodName := ⟨RX3, "layCommon", "(I)V"⟩
def dkwX3_layCommon_6 : List UInt8 := [21, 5, 184, 0, 243, 21, 6, 79, 132, 5, 255, 167, 255, 128, 132, 4, 255, 167, 255, 114, 177]
abbrev dktX3_layCommon_6 : List UInt8 := dkwX3_layCommon_6 ++ []
def dkwX3_layCommon_5 : List UInt8 := [21, 5, 4, 96, 184, 0, 243, 46, 4, 96, 167, 0, 5, 21, 8, 54, 6, 42, 180, 0, 48, 21, 4]
abbrev dktX3_layCommon_5 : List UInt8 := dkwX3_layCommon_5 ++ dktX3_layCommon_6
def dkwX3_layCommon_4 : List UInt8 := [4, 96, 184, 0, 243, 46, 184, 0, 246, 54, 8, 21, 7, 153, 0, 24, 42, 180, 0, 48, 21, 4, 4, 96]
abbrev dktX3_layCommon_4 : List UInt8 := dkwX3_layCommon_4 ++ dktX3_layCommon_5
def dkwX3_layCommon_3 : List UInt8 := [54, 7, 42, 180, 0, 48, 21, 4, 4, 96, 21, 5, 184, 0, 243, 46, 42, 180, 0, 48, 21, 4, 21, 5]
abbrev dktX3_layCommon_3 : List UInt8 := dkwX3_layCommon_3 ++ dktX3_layCommon_4
def dkwX3_layCommon_2 : List UInt8 := [21, 4, 182, 0, 181, 42, 42, 182, 0, 164, 21, 5, 182, 0, 181, 148, 154, 0, 7, 4, 167, 0, 4, 3]
abbrev dktX3_layCommon_2 : List UInt8 := dkwX3_layCommon_2 ++ dktX3_layCommon_3
def dkwX3_layCommon_1 : List UInt8 := [54, 5, 21, 5, 155, 0, 129, 3, 54, 6, 21, 4, 28, 162, 0, 100, 21, 5, 29, 162, 0, 94, 42, 27]
abbrev dktX3_layCommon_1 : List UInt8 := dkwX3_layCommon_1 ++ dktX3_layCommon_2
def dkwX3_layCommon_0 : List UInt8 := [42, 27, 182, 0, 119, 61, 42, 42, 182, 0, 164, 182, 0, 119, 62, 28, 54, 4, 21, 4, 155, 0, 143, 29]
abbrev dktX3_layCommon_0 : List UInt8 := dkwX3_layCommon_0 ++ dktX3_layCommon_1
theorem dksX3_layCommon_0 : cX3_layCommon.data.toList.drop 0 = dktX3_layCommon_0 := by decide +kernel
theorem dksX3_layCommon_1 : cX3_layCommon.data.toList.drop 24 = dktX3_layCommon_1 := dk_seg dksX3_layCommon_0 24 rfl rfl
theorem dksX3_layCommon_2 : cX3_layCommon.data.toList.drop 48 = dktX3_layCommon_2 := dk_seg dksX3_layCommon_1 24 rfl rfl
theorem dksX3_layCommon_3 : cX3_layCommon.data.toList.drop 72 = dktX3_layCommon_3 := dk_seg dksX3_layCommon_2 24 rfl rfl
theorem dksX3_layCommon_4 : cX3_layCommon.data.toList.drop 96 = dktX3_layCommon_4 := dk_seg dksX3_layCommon_3 24 rfl rfl
theorem dksX3_layCommon_5 : cX3_layCommon.data.toList.drop 120 = dktX3_layCommon_5 := dk_seg dksX3_layCommon_4 24 rfl rfl
theorem dksX3_layCommon_6 : cX3_layCommon.data.toList.drop 143 = dktX3_layCommon_6 := dk_seg dksX3_layCommon_5 23 rfl rfl
theorem dX3_layCommon_0 : decode cX3_layCommon 0 = .ok (.aload_n 0, 1) := dk_42 (dk_at dksX3_layCommon_0 0 rfl rfl)
theorem dX3_layCommon_1 : decode cX3_layCommon 1 = .ok (.iload_n 1, 1) := dk_27 (dk_at dksX3_layCommon_0 1 rfl rfl)
theorem dX3_layCommon_2 : decode cX3_layCommon 2 = .ok (.invokevirtual 119, 3) := dk_182 0 119 (dk_at dksX3_layCommon_0 2 rfl rfl)
theorem dX3_layCommon_5 : decode cX3_layCommon 5 = .ok (.istore_n 2, 1) := dk_61 (dk_at dksX3_layCommon_0 5 rfl rfl)
theorem dX3_layCommon_6 : decode cX3_layCommon 6 = .ok (.aload_n 0, 1) := dk_42 (dk_at dksX3_layCommon_0 6 rfl rfl)
theorem dX3_layCommon_7 : decode cX3_layCommon 7 = .ok (.aload_n 0, 1) := dk_42 (dk_at dksX3_layCommon_0 7 rfl rfl)
theorem dX3_layCommon_8 : decode cX3_layCommon 8 = .ok (.invokevirtual 164, 3) := dk_182 0 164 (dk_at dksX3_layCommon_0 8 rfl rfl)
theorem dX3_layCommon_11 : decode cX3_layCommon 11 = .ok (.invokevirtual 119, 3) := dk_182 0 119 (dk_at dksX3_layCommon_0 11 rfl rfl)
theorem dX3_layCommon_14 : decode cX3_layCommon 14 = .ok (.istore_n 3, 1) := dk_62 (dk_at dksX3_layCommon_0 14 rfl rfl)
theorem dX3_layCommon_15 : decode cX3_layCommon 15 = .ok (.iload_n 2, 1) := dk_28 (dk_at dksX3_layCommon_0 15 rfl rfl)
theorem dX3_layCommon_16 : decode cX3_layCommon 16 = .ok (.istore 4, 2) := dk_54 4 (dk_at dksX3_layCommon_0 16 rfl rfl)
theorem dX3_layCommon_18 : decode cX3_layCommon 18 = .ok (.iload 4, 2) := dk_21 4 (dk_at dksX3_layCommon_0 18 rfl rfl)
theorem dX3_layCommon_20 : decode cX3_layCommon 20 = .ok (.ifCond .lt 143, 3) := dk_155 0 143 (dk_at dksX3_layCommon_0 20 rfl rfl)
theorem dX3_layCommon_23 : decode cX3_layCommon 23 = .ok (.iload_n 3, 1) := dk_29 (dk_at dksX3_layCommon_0 23 rfl rfl)
theorem dX3_layCommon_24 : decode cX3_layCommon 24 = .ok (.istore 5, 2) := dk_54 5 (dk_at dksX3_layCommon_1 0 rfl rfl)
theorem dX3_layCommon_26 : decode cX3_layCommon 26 = .ok (.iload 5, 2) := dk_21 5 (dk_at dksX3_layCommon_1 2 rfl rfl)
theorem dX3_layCommon_28 : decode cX3_layCommon 28 = .ok (.ifCond .lt 129, 3) := dk_155 0 129 (dk_at dksX3_layCommon_1 4 rfl rfl)
theorem dX3_layCommon_31 : decode cX3_layCommon 31 = .ok (.iconst 0, 1) := dk_3 (dk_at dksX3_layCommon_1 7 rfl rfl)
theorem dX3_layCommon_32 : decode cX3_layCommon 32 = .ok (.istore 6, 2) := dk_54 6 (dk_at dksX3_layCommon_1 8 rfl rfl)
theorem dX3_layCommon_34 : decode cX3_layCommon 34 = .ok (.iload 4, 2) := dk_21 4 (dk_at dksX3_layCommon_1 10 rfl rfl)
theorem dX3_layCommon_36 : decode cX3_layCommon 36 = .ok (.iload_n 2, 1) := dk_28 (dk_at dksX3_layCommon_1 12 rfl rfl)
theorem dX3_layCommon_37 : decode cX3_layCommon 37 = .ok (.if_icmp .ge 100, 3) := dk_162 0 100 (dk_at dksX3_layCommon_1 13 rfl rfl)
theorem dX3_layCommon_40 : decode cX3_layCommon 40 = .ok (.iload 5, 2) := dk_21 5 (dk_at dksX3_layCommon_1 16 rfl rfl)
theorem dX3_layCommon_42 : decode cX3_layCommon 42 = .ok (.iload_n 3, 1) := dk_29 (dk_at dksX3_layCommon_1 18 rfl rfl)
theorem dX3_layCommon_43 : decode cX3_layCommon 43 = .ok (.if_icmp .ge 94, 3) := dk_162 0 94 (dk_at dksX3_layCommon_1 19 rfl rfl)
theorem dX3_layCommon_46 : decode cX3_layCommon 46 = .ok (.aload_n 0, 1) := dk_42 (dk_at dksX3_layCommon_1 22 rfl rfl)
theorem dX3_layCommon_47 : decode cX3_layCommon 47 = .ok (.iload_n 1, 1) := dk_27 (dk_at dksX3_layCommon_1 23 rfl rfl)
theorem dX3_layCommon_48 : decode cX3_layCommon 48 = .ok (.iload 4, 2) := dk_21 4 (dk_at dksX3_layCommon_2 0 rfl rfl)
theorem dX3_layCommon_50 : decode cX3_layCommon 50 = .ok (.invokevirtual 181, 3) := dk_182 0 181 (dk_at dksX3_layCommon_2 2 rfl rfl)
theorem dX3_layCommon_53 : decode cX3_layCommon 53 = .ok (.aload_n 0, 1) := dk_42 (dk_at dksX3_layCommon_2 5 rfl rfl)
theorem dX3_layCommon_54 : decode cX3_layCommon 54 = .ok (.aload_n 0, 1) := dk_42 (dk_at dksX3_layCommon_2 6 rfl rfl)
theorem dX3_layCommon_55 : decode cX3_layCommon 55 = .ok (.invokevirtual 164, 3) := dk_182 0 164 (dk_at dksX3_layCommon_2 7 rfl rfl)
theorem dX3_layCommon_58 : decode cX3_layCommon 58 = .ok (.iload 5, 2) := dk_21 5 (dk_at dksX3_layCommon_2 10 rfl rfl)
theorem dX3_layCommon_60 : decode cX3_layCommon 60 = .ok (.invokevirtual 181, 3) := dk_182 0 181 (dk_at dksX3_layCommon_2 12 rfl rfl)
theorem dX3_layCommon_63 : decode cX3_layCommon 63 = .ok (.lcmp, 1) := dk_148 (dk_at dksX3_layCommon_2 15 rfl rfl)
theorem dX3_layCommon_64 : decode cX3_layCommon 64 = .ok (.ifCond .ne 7, 3) := dk_154 0 7 (dk_at dksX3_layCommon_2 16 rfl rfl)
theorem dX3_layCommon_67 : decode cX3_layCommon 67 = .ok (.iconst 1, 1) := dk_4 (dk_at dksX3_layCommon_2 19 rfl rfl)
theorem dX3_layCommon_68 : decode cX3_layCommon 68 = .ok (.goto 4, 3) := dk_167 0 4 (dk_at dksX3_layCommon_2 20 rfl rfl)
theorem dX3_layCommon_71 : decode cX3_layCommon 71 = .ok (.iconst 0, 1) := dk_3 (dk_at dksX3_layCommon_2 23 rfl rfl)
theorem dX3_layCommon_72 : decode cX3_layCommon 72 = .ok (.istore 7, 2) := dk_54 7 (dk_at dksX3_layCommon_3 0 rfl rfl)
theorem dX3_layCommon_74 : decode cX3_layCommon 74 = .ok (.aload_n 0, 1) := dk_42 (dk_at dksX3_layCommon_3 2 rfl rfl)
theorem dX3_layCommon_75 : decode cX3_layCommon 75 = .ok (.getfield 48, 3) := dk_180 0 48 (dk_at dksX3_layCommon_3 3 rfl rfl)
theorem dX3_layCommon_78 : decode cX3_layCommon 78 = .ok (.iload 4, 2) := dk_21 4 (dk_at dksX3_layCommon_3 6 rfl rfl)
theorem dX3_layCommon_80 : decode cX3_layCommon 80 = .ok (.iconst 1, 1) := dk_4 (dk_at dksX3_layCommon_3 8 rfl rfl)
theorem dX3_layCommon_81 : decode cX3_layCommon 81 = .ok (.iadd, 1) := dk_96 (dk_at dksX3_layCommon_3 9 rfl rfl)
theorem dX3_layCommon_82 : decode cX3_layCommon 82 = .ok (.iload 5, 2) := dk_21 5 (dk_at dksX3_layCommon_3 10 rfl rfl)
theorem dX3_layCommon_84 : decode cX3_layCommon 84 = .ok (.invokestatic 243, 3) := dk_184 0 243 (dk_at dksX3_layCommon_3 12 rfl rfl)
theorem dX3_layCommon_87 : decode cX3_layCommon 87 = .ok (.iaload, 1) := dk_46 (dk_at dksX3_layCommon_3 15 rfl rfl)
theorem dX3_layCommon_88 : decode cX3_layCommon 88 = .ok (.aload_n 0, 1) := dk_42 (dk_at dksX3_layCommon_3 16 rfl rfl)
theorem dX3_layCommon_89 : decode cX3_layCommon 89 = .ok (.getfield 48, 3) := dk_180 0 48 (dk_at dksX3_layCommon_3 17 rfl rfl)
theorem dX3_layCommon_92 : decode cX3_layCommon 92 = .ok (.iload 4, 2) := dk_21 4 (dk_at dksX3_layCommon_3 20 rfl rfl)
theorem dX3_layCommon_94 : decode cX3_layCommon 94 = .ok (.iload 5, 2) := dk_21 5 (dk_at dksX3_layCommon_3 22 rfl rfl)
theorem dX3_layCommon_96 : decode cX3_layCommon 96 = .ok (.iconst 1, 1) := dk_4 (dk_at dksX3_layCommon_4 0 rfl rfl)
theorem dX3_layCommon_97 : decode cX3_layCommon 97 = .ok (.iadd, 1) := dk_96 (dk_at dksX3_layCommon_4 1 rfl rfl)
theorem dX3_layCommon_98 : decode cX3_layCommon 98 = .ok (.invokestatic 243, 3) := dk_184 0 243 (dk_at dksX3_layCommon_4 2 rfl rfl)
theorem dX3_layCommon_101 : decode cX3_layCommon 101 = .ok (.iaload, 1) := dk_46 (dk_at dksX3_layCommon_4 5 rfl rfl)
theorem dX3_layCommon_102 : decode cX3_layCommon 102 = .ok (.invokestatic 246, 3) := dk_184 0 246 (dk_at dksX3_layCommon_4 6 rfl rfl)
theorem dX3_layCommon_105 : decode cX3_layCommon 105 = .ok (.istore 8, 2) := dk_54 8 (dk_at dksX3_layCommon_4 9 rfl rfl)
theorem dX3_layCommon_107 : decode cX3_layCommon 107 = .ok (.iload 7, 2) := dk_21 7 (dk_at dksX3_layCommon_4 11 rfl rfl)
theorem dX3_layCommon_109 : decode cX3_layCommon 109 = .ok (.ifCond .eq 24, 3) := dk_153 0 24 (dk_at dksX3_layCommon_4 13 rfl rfl)
theorem dX3_layCommon_112 : decode cX3_layCommon 112 = .ok (.aload_n 0, 1) := dk_42 (dk_at dksX3_layCommon_4 16 rfl rfl)
theorem dX3_layCommon_113 : decode cX3_layCommon 113 = .ok (.getfield 48, 3) := dk_180 0 48 (dk_at dksX3_layCommon_4 17 rfl rfl)
theorem dX3_layCommon_116 : decode cX3_layCommon 116 = .ok (.iload 4, 2) := dk_21 4 (dk_at dksX3_layCommon_4 20 rfl rfl)
theorem dX3_layCommon_118 : decode cX3_layCommon 118 = .ok (.iconst 1, 1) := dk_4 (dk_at dksX3_layCommon_4 22 rfl rfl)
theorem dX3_layCommon_119 : decode cX3_layCommon 119 = .ok (.iadd, 1) := dk_96 (dk_at dksX3_layCommon_4 23 rfl rfl)
theorem dX3_layCommon_120 : decode cX3_layCommon 120 = .ok (.iload 5, 2) := dk_21 5 (dk_at dksX3_layCommon_5 0 rfl rfl)
theorem dX3_layCommon_122 : decode cX3_layCommon 122 = .ok (.iconst 1, 1) := dk_4 (dk_at dksX3_layCommon_5 2 rfl rfl)
theorem dX3_layCommon_123 : decode cX3_layCommon 123 = .ok (.iadd, 1) := dk_96 (dk_at dksX3_layCommon_5 3 rfl rfl)
theorem dX3_layCommon_124 : decode cX3_layCommon 124 = .ok (.invokestatic 243, 3) := dk_184 0 243 (dk_at dksX3_layCommon_5 4 rfl rfl)
theorem dX3_layCommon_127 : decode cX3_layCommon 127 = .ok (.iaload, 1) := dk_46 (dk_at dksX3_layCommon_5 7 rfl rfl)
theorem dX3_layCommon_128 : decode cX3_layCommon 128 = .ok (.iconst 1, 1) := dk_4 (dk_at dksX3_layCommon_5 8 rfl rfl)
theorem dX3_layCommon_129 : decode cX3_layCommon 129 = .ok (.iadd, 1) := dk_96 (dk_at dksX3_layCommon_5 9 rfl rfl)
theorem dX3_layCommon_130 : decode cX3_layCommon 130 = .ok (.goto 5, 3) := dk_167 0 5 (dk_at dksX3_layCommon_5 10 rfl rfl)
theorem dX3_layCommon_133 : decode cX3_layCommon 133 = .ok (.iload 8, 2) := dk_21 8 (dk_at dksX3_layCommon_5 13 rfl rfl)
theorem dX3_layCommon_135 : decode cX3_layCommon 135 = .ok (.istore 6, 2) := dk_54 6 (dk_at dksX3_layCommon_5 15 rfl rfl)
theorem dX3_layCommon_137 : decode cX3_layCommon 137 = .ok (.aload_n 0, 1) := dk_42 (dk_at dksX3_layCommon_5 17 rfl rfl)
theorem dX3_layCommon_138 : decode cX3_layCommon 138 = .ok (.getfield 48, 3) := dk_180 0 48 (dk_at dksX3_layCommon_5 18 rfl rfl)
theorem dX3_layCommon_141 : decode cX3_layCommon 141 = .ok (.iload 4, 2) := dk_21 4 (dk_at dksX3_layCommon_5 21 rfl rfl)
theorem dX3_layCommon_143 : decode cX3_layCommon 143 = .ok (.iload 5, 2) := dk_21 5 (dk_at dksX3_layCommon_6 0 rfl rfl)
theorem dX3_layCommon_145 : decode cX3_layCommon 145 = .ok (.invokestatic 243, 3) := dk_184 0 243 (dk_at dksX3_layCommon_6 2 rfl rfl)
theorem dX3_layCommon_148 : decode cX3_layCommon 148 = .ok (.iload 6, 2) := dk_21 6 (dk_at dksX3_layCommon_6 5 rfl rfl)
theorem dX3_layCommon_150 : decode cX3_layCommon 150 = .ok (.iastore, 1) := dk_79 (dk_at dksX3_layCommon_6 7 rfl rfl)
theorem dX3_layCommon_151 : decode cX3_layCommon 151 = .ok (.iinc 5 (-1), 3) := dk_132 5 255 (dk_at dksX3_layCommon_6 8 rfl rfl)
theorem dX3_layCommon_154 : decode cX3_layCommon 154 = .ok (.goto (-128), 3) := dk_167 255 128 (dk_at dksX3_layCommon_6 11 rfl rfl)
theorem dX3_layCommon_157 : decode cX3_layCommon 157 = .ok (.iinc 4 (-1), 3) := dk_132 4 255 (dk_at dksX3_layCommon_6 14 rfl rfl)
theorem dX3_layCommon_160 : decode cX3_layCommon 160 = .ok (.goto (-142), 3) := dk_167 255 114 (dk_at dksX3_layCommon_6 17 rfl rfl)
theorem dX3_layCommon_163 : decode cX3_layCommon 163 = .ok (.return_, 1) := dk_177 (dk_at dksX3_layCommon_6 20 rfl rfl)
abbrev cX3_wordOf : ByteArray := prog_16_method_19_code
def yX3_wordOf : MethodName := ⟨RX3, "wordOf", "(II)J"⟩
def dkwX3_wordOf_0 : List UInt8 := [42, 180, 0, 19, 27, 28, 184, 0, 129, 47, 173]
abbrev dktX3_wordOf_0 : List UInt8 := dkwX3_wordOf_0 ++ []
theorem dksX3_wordOf_0 : cX3_wordOf.data.toList.drop 0 = dktX3_wordOf_0 := by decide +kernel
theorem dX3_wordOf_0 : decode cX3_wordOf 0 = .ok (.aload_n 0, 1) := dk_42 (dk_at dksX3_wordOf_0 0 rfl rfl)
theorem dX3_wordOf_1 : decode cX3_wordOf 1 = .ok (.getfield 19, 3) := dk_180 0 19 (dk_at dksX3_wordOf_0 1 rfl rfl)
theorem dX3_wordOf_4 : decode cX3_wordOf 4 = .ok (.iload_n 1, 1) := dk_27 (dk_at dksX3_wordOf_0 4 rfl rfl)
theorem dX3_wordOf_5 : decode cX3_wordOf 5 = .ok (.iload_n 2, 1) := dk_28 (dk_at dksX3_wordOf_0 5 rfl rfl)
theorem dX3_wordOf_6 : decode cX3_wordOf 6 = .ok (.invokestatic 129, 3) := dk_184 0 129 (dk_at dksX3_wordOf_0 6 rfl rfl)
theorem dX3_wordOf_9 : decode cX3_wordOf 9 = .ok (.laload, 1) := dk_47 (dk_at dksX3_wordOf_0 9 rfl rfl)
theorem dX3_wordOf_10 : decode cX3_wordOf 10 = .ok (.lreturn, 1) := dk_173 (dk_at dksX3_wordOf_0 10 rfl rfl)
abbrev cX3_wordPlace : ByteArray := prog_16_method_18_code
def yX3_wordPlace : MethodName := ⟨RX3, "wordPlace", "(II)I"⟩
def dkwX3_wordPlace_0 : List UInt8 := [16, 120, 26, 104, 27, 96, 172]
abbrev dktX3_wordPlace_0 : List UInt8 := dkwX3_wordPlace_0 ++ []
theorem dksX3_wordPlace_0 : cX3_wordPlace.data.toList.drop 0 = dktX3_wordPlace_0 := by decide +kernel
theorem dX3_wordPlace_0 : decode cX3_wordPlace 0 = .ok (.bipush 120, 2) := dk_16 120 (dk_at dksX3_wordPlace_0 0 rfl rfl)
theorem dX3_wordPlace_2 : decode cX3_wordPlace 2 = .ok (.iload_n 0, 1) := dk_26 (dk_at dksX3_wordPlace_0 2 rfl rfl)
theorem dX3_wordPlace_3 : decode cX3_wordPlace 3 = .ok (.imul, 1) := dk_104 (dk_at dksX3_wordPlace_0 3 rfl rfl)
theorem dX3_wordPlace_4 : decode cX3_wordPlace 4 = .ok (.iload_n 1, 1) := dk_27 (dk_at dksX3_wordPlace_0 4 rfl rfl)
theorem dX3_wordPlace_5 : decode cX3_wordPlace 5 = .ok (.iadd, 1) := dk_96 (dk_at dksX3_wordPlace_0 5 rfl rfl)
theorem dX3_wordPlace_6 : decode cX3_wordPlace 6 = .ok (.ireturn, 1) := dk_172 (dk_at dksX3_wordPlace_0 6 rfl rfl)
abbrev cX3_commonPlace : ByteArray := prog_16_method_58_code
def yX3_commonPlace : MethodName := ⟨RX3, "commonPlace", "(II)I"⟩
def dkwX3_commonPlace_0 : List UInt8 := [16, 121, 26, 104, 27, 96, 172]
abbrev dktX3_commonPlace_0 : List UInt8 := dkwX3_commonPlace_0 ++ []
theorem dksX3_commonPlace_0 : cX3_commonPlace.data.toList.drop 0 = dktX3_commonPlace_0 := by decide +kernel
theorem dX3_commonPlace_0 : decode cX3_commonPlace 0 = .ok (.bipush 121, 2) := dk_16 121 (dk_at dksX3_commonPlace_0 0 rfl rfl)
theorem dX3_commonPlace_2 : decode cX3_commonPlace 2 = .ok (.iload_n 0, 1) := dk_26 (dk_at dksX3_commonPlace_0 2 rfl rfl)
theorem dX3_commonPlace_3 : decode cX3_commonPlace 3 = .ok (.imul, 1) := dk_104 (dk_at dksX3_commonPlace_0 3 rfl rfl)
theorem dX3_commonPlace_4 : decode cX3_commonPlace 4 = .ok (.iload_n 1, 1) := dk_27 (dk_at dksX3_commonPlace_0 4 rfl rfl)
theorem dX3_commonPlace_5 : decode cX3_commonPlace 5 = .ok (.iadd, 1) := dk_96 (dk_at dksX3_commonPlace_0 5 rfl rfl)
theorem dX3_commonPlace_6 : decode cX3_commonPlace 6 = .ok (.ireturn, 1) := dk_172 (dk_at dksX3_commonPlace_0 6 rfl rfl)
abbrev cX3_notes : ByteArray := prog_16_method_9_code
def yX3_notes : MethodName := ⟨RX3, "notes", "()I"⟩
def dkwX3_notes_0 : List UInt8 := [42, 180, 0, 7, 5, 46, 172]
abbrev dktX3_notes_0 : List UInt8 := dkwX3_notes_0 ++ []
theorem dksX3_notes_0 : cX3_notes.data.toList.drop 0 = dktX3_notes_0 := by decide +kernel
theorem dX3_notes_0 : decode cX3_notes 0 = .ok (.aload_n 0, 1) := dk_42 (dk_at dksX3_notes_0 0 rfl rfl)
theorem dX3_notes_1 : decode cX3_notes 1 = .ok (.getfield 7, 3) := dk_180 0 7 (dk_at dksX3_notes_0 1 rfl rfl)
theorem dX3_notes_4 : decode cX3_notes 4 = .ok (.iconst 2, 1) := dk_5 (dk_at dksX3_notes_0 4 rfl rfl)
theorem dX3_notes_5 : decode cX3_notes 5 = .ok (.iaload, 1) := dk_46 (dk_at dksX3_notes_0 5 rfl rfl)
theorem dX3_notes_6 : decode cX3_notes 6 = .ok (.ireturn, 1) := dk_172 (dk_at dksX3_notes_0 6 rfl rfl)
abbrev cX3_ofNote : ByteArray := prog_16_method_13_code
def yX3_ofNote : MethodName := ⟨RX3, "ofNote", "(II)I"⟩
def dkwX3_ofNote_0 : List UInt8 := [42, 180, 0, 7, 17, 1, 118, 16, 6, 27, 104, 96, 28, 96, 46, 172]
abbrev dktX3_ofNote_0 : List UInt8 := dkwX3_ofNote_0 ++ []
theorem dksX3_ofNote_0 : cX3_ofNote.data.toList.drop 0 = dktX3_ofNote_0 := by decide +kernel
theorem dX3_ofNote_0 : decode cX3_ofNote 0 = .ok (.aload_n 0, 1) := dk_42 (dk_at dksX3_ofNote_0 0 rfl rfl)
theorem dX3_ofNote_1 : decode cX3_ofNote 1 = .ok (.getfield 7, 3) := dk_180 0 7 (dk_at dksX3_ofNote_0 1 rfl rfl)
theorem dX3_ofNote_4 : decode cX3_ofNote 4 = .ok (.sipush 374, 3) := dk_17 1 118 (dk_at dksX3_ofNote_0 4 rfl rfl)
theorem dX3_ofNote_7 : decode cX3_ofNote 7 = .ok (.bipush 6, 2) := dk_16 6 (dk_at dksX3_ofNote_0 7 rfl rfl)
theorem dX3_ofNote_9 : decode cX3_ofNote 9 = .ok (.iload_n 1, 1) := dk_27 (dk_at dksX3_ofNote_0 9 rfl rfl)
theorem dX3_ofNote_10 : decode cX3_ofNote 10 = .ok (.imul, 1) := dk_104 (dk_at dksX3_ofNote_0 10 rfl rfl)
theorem dX3_ofNote_11 : decode cX3_ofNote 11 = .ok (.iadd, 1) := dk_96 (dk_at dksX3_ofNote_0 11 rfl rfl)
theorem dX3_ofNote_12 : decode cX3_ofNote 12 = .ok (.iload_n 2, 1) := dk_28 (dk_at dksX3_ofNote_0 12 rfl rfl)
theorem dX3_ofNote_13 : decode cX3_ofNote 13 = .ok (.iadd, 1) := dk_96 (dk_at dksX3_ofNote_0 13 rfl rfl)
theorem dX3_ofNote_14 : decode cX3_ofNote 14 = .ok (.iaload, 1) := dk_46 (dk_at dksX3_ofNote_0 14 rfl rfl)
theorem dX3_ofNote_15 : decode cX3_ofNote 15 = .ok (.ireturn, 1) := dk_172 (dk_at dksX3_ofNote_0 15 rfl rfl)
abbrev cX3_layAnchor : ByteArray := prog_16_method_64_code
def yX3_layAnchor : MethodName := ⟨RX3, "layAnchor", "(I)V"⟩
def dkwX3_layAnchor_9 : List UInt8 := [27, 21, 5, 79, 42, 180, 0, 60, 27, 21, 6, 79, 177]
abbrev dktX3_layAnchor_9 : List UInt8 := dkwX3_layAnchor_9 ++ []
def dkwX3_layAnchor_8 : List UInt8 := [160, 0, 7, 2, 167, 0, 10, 42, 180, 0, 51, 21, 8, 46, 54, 5, 21, 5, 54, 6, 42, 180, 0, 57]
abbrev dktX3_layAnchor_8 : List UInt8 := dkwX3_layAnchor_8 ++ dktX3_layAnchor_9
def dkwX3_layAnchor_7 : List UInt8 := [167, 0, 43, 42, 180, 0, 54, 27, 21, 8, 2, 160, 0, 7, 6, 167, 0, 4, 5, 79, 21, 8, 2]
abbrev dktX3_layAnchor_7 : List UInt8 := dkwX3_layAnchor_7 ++ dktX3_layAnchor_8
def dkwX3_layAnchor_6 : List UInt8 := [29, 28, 100, 4, 96, 161, 0, 22, 42, 180, 0, 54, 27, 21, 7, 153, 0, 7, 3, 167, 0, 4, 4, 79]
abbrev dktX3_layAnchor_6 : List UInt8 := dkwX3_layAnchor_6 ++ dktX3_layAnchor_7
def dkwX3_layAnchor_5 : List UInt8 := [79, 42, 42, 27, 5, 182, 0, 205, 28, 29, 182, 0, 255, 54, 8, 21, 7, 154, 0, 15, 5, 21, 4, 104]
abbrev dktX3_layAnchor_5 : List UInt8 := dkwX3_layAnchor_5 ++ dktX3_layAnchor_6
def dkwX3_layAnchor_4 : List UInt8 := [21, 5, 54, 5, 21, 9, 54, 6, 132, 4, 1, 132, 8, 1, 167, 255, 177, 42, 180, 0, 63, 27, 21, 4]
abbrev dktX3_layAnchor_4 : List UInt8 := dkwX3_layAnchor_4 ++ dktX3_layAnchor_5
def dkwX3_layAnchor_3 : List UInt8 := [4, 167, 0, 4, 3, 54, 7, 21, 9, 2, 159, 0, 25, 21, 5, 2, 160, 0, 8, 21, 9, 167, 0, 5]
abbrev dktX3_layAnchor_3 : List UInt8 := dkwX3_layAnchor_3 ++ dktX3_layAnchor_4
def dkwX3_layAnchor_2 : List UInt8 := [153, 0, 28, 21, 9, 2, 159, 0, 22, 21, 8, 28, 159, 0, 12, 21, 9, 21, 6, 4, 96, 160, 0, 7]
abbrev dktX3_layAnchor_2 : List UInt8 := dkwX3_layAnchor_2 ++ dktX3_layAnchor_3
def dkwX3_layAnchor_1 : List UInt8 := [54, 7, 28, 54, 8, 21, 8, 29, 163, 0, 79, 42, 180, 0, 51, 21, 8, 46, 54, 9, 21, 7]
abbrev dktX3_layAnchor_1 : List UInt8 := dkwX3_layAnchor_1 ++ dktX3_layAnchor_2
def dkwX3_layAnchor_0 : List UInt8 := [42, 27, 6, 182, 0, 205, 61, 42, 27, 7, 182, 0, 205, 62, 3, 54, 4, 2, 54, 5, 2, 54, 6, 4]
abbrev dktX3_layAnchor_0 : List UInt8 := dkwX3_layAnchor_0 ++ dktX3_layAnchor_1
theorem dksX3_layAnchor_0 : cX3_layAnchor.data.toList.drop 0 = dktX3_layAnchor_0 := by decide +kernel
theorem dksX3_layAnchor_1 : cX3_layAnchor.data.toList.drop 24 = dktX3_layAnchor_1 := dk_seg dksX3_layAnchor_0 24 rfl rfl
theorem dksX3_layAnchor_2 : cX3_layAnchor.data.toList.drop 46 = dktX3_layAnchor_2 := dk_seg dksX3_layAnchor_1 22 rfl rfl
theorem dksX3_layAnchor_3 : cX3_layAnchor.data.toList.drop 70 = dktX3_layAnchor_3 := dk_seg dksX3_layAnchor_2 24 rfl rfl
theorem dksX3_layAnchor_4 : cX3_layAnchor.data.toList.drop 94 = dktX3_layAnchor_4 := dk_seg dksX3_layAnchor_3 24 rfl rfl
theorem dksX3_layAnchor_5 : cX3_layAnchor.data.toList.drop 118 = dktX3_layAnchor_5 := dk_seg dksX3_layAnchor_4 24 rfl rfl
theorem dksX3_layAnchor_6 : cX3_layAnchor.data.toList.drop 142 = dktX3_layAnchor_6 := dk_seg dksX3_layAnchor_5 24 rfl rfl
theorem dksX3_layAnchor_7 : cX3_layAnchor.data.toList.drop 166 = dktX3_layAnchor_7 := dk_seg dksX3_layAnchor_6 24 rfl rfl
theorem dksX3_layAnchor_8 : cX3_layAnchor.data.toList.drop 189 = dktX3_layAnchor_8 := dk_seg dksX3_layAnchor_7 23 rfl rfl
theorem dksX3_layAnchor_9 : cX3_layAnchor.data.toList.drop 213 = dktX3_layAnchor_9 := dk_seg dksX3_layAnchor_8 24 rfl rfl
theorem dX3_layAnchor_0 : decode cX3_layAnchor 0 = .ok (.aload_n 0, 1) := dk_42 (dk_at dksX3_layAnchor_0 0 rfl rfl)
theorem dX3_layAnchor_1 : decode cX3_layAnchor 1 = .ok (.iload_n 1, 1) := dk_27 (dk_at dksX3_layAnchor_0 1 rfl rfl)
theorem dX3_layAnchor_2 : decode cX3_layAnchor 2 = .ok (.iconst 3, 1) := dk_6 (dk_at dksX3_layAnchor_0 2 rfl rfl)
theorem dX3_layAnchor_3 : decode cX3_layAnchor 3 = .ok (.invokevirtual 205, 3) := dk_182 0 205 (dk_at dksX3_layAnchor_0 3 rfl rfl)
theorem dX3_layAnchor_6 : decode cX3_layAnchor 6 = .ok (.istore_n 2, 1) := dk_61 (dk_at dksX3_layAnchor_0 6 rfl rfl)
theorem dX3_layAnchor_7 : decode cX3_layAnchor 7 = .ok (.aload_n 0, 1) := dk_42 (dk_at dksX3_layAnchor_0 7 rfl rfl)
theorem dX3_layAnchor_8 : decode cX3_layAnchor 8 = .ok (.iload_n 1, 1) := dk_27 (dk_at dksX3_layAnchor_0 8 rfl rfl)
theorem dX3_layAnchor_9 : decode cX3_layAnchor 9 = .ok (.iconst 4, 1) := dk_7 (dk_at dksX3_layAnchor_0 9 rfl rfl)
theorem dX3_layAnchor_10 : decode cX3_layAnchor 10 = .ok (.invokevirtual 205, 3) := dk_182 0 205 (dk_at dksX3_layAnchor_0 10 rfl rfl)
theorem dX3_layAnchor_13 : decode cX3_layAnchor 13 = .ok (.istore_n 3, 1) := dk_62 (dk_at dksX3_layAnchor_0 13 rfl rfl)
theorem dX3_layAnchor_14 : decode cX3_layAnchor 14 = .ok (.iconst 0, 1) := dk_3 (dk_at dksX3_layAnchor_0 14 rfl rfl)
theorem dX3_layAnchor_15 : decode cX3_layAnchor 15 = .ok (.istore 4, 2) := dk_54 4 (dk_at dksX3_layAnchor_0 15 rfl rfl)
theorem dX3_layAnchor_17 : decode cX3_layAnchor 17 = .ok (.iconst (-1), 1) := dk_2 (dk_at dksX3_layAnchor_0 17 rfl rfl)
theorem dX3_layAnchor_18 : decode cX3_layAnchor 18 = .ok (.istore 5, 2) := dk_54 5 (dk_at dksX3_layAnchor_0 18 rfl rfl)
theorem dX3_layAnchor_20 : decode cX3_layAnchor 20 = .ok (.iconst (-1), 1) := dk_2 (dk_at dksX3_layAnchor_0 20 rfl rfl)
theorem dX3_layAnchor_21 : decode cX3_layAnchor 21 = .ok (.istore 6, 2) := dk_54 6 (dk_at dksX3_layAnchor_0 21 rfl rfl)
theorem dX3_layAnchor_23 : decode cX3_layAnchor 23 = .ok (.iconst 1, 1) := dk_4 (dk_at dksX3_layAnchor_0 23 rfl rfl)
theorem dX3_layAnchor_24 : decode cX3_layAnchor 24 = .ok (.istore 7, 2) := dk_54 7 (dk_at dksX3_layAnchor_1 0 rfl rfl)
theorem dX3_layAnchor_26 : decode cX3_layAnchor 26 = .ok (.iload_n 2, 1) := dk_28 (dk_at dksX3_layAnchor_1 2 rfl rfl)
theorem dX3_layAnchor_27 : decode cX3_layAnchor 27 = .ok (.istore 8, 2) := dk_54 8 (dk_at dksX3_layAnchor_1 3 rfl rfl)
theorem dX3_layAnchor_29 : decode cX3_layAnchor 29 = .ok (.iload 8, 2) := dk_21 8 (dk_at dksX3_layAnchor_1 5 rfl rfl)
theorem dX3_layAnchor_31 : decode cX3_layAnchor 31 = .ok (.iload_n 3, 1) := dk_29 (dk_at dksX3_layAnchor_1 7 rfl rfl)
theorem dX3_layAnchor_32 : decode cX3_layAnchor 32 = .ok (.if_icmp .gt 79, 3) := dk_163 0 79 (dk_at dksX3_layAnchor_1 8 rfl rfl)
theorem dX3_layAnchor_35 : decode cX3_layAnchor 35 = .ok (.aload_n 0, 1) := dk_42 (dk_at dksX3_layAnchor_1 11 rfl rfl)
theorem dX3_layAnchor_36 : decode cX3_layAnchor 36 = .ok (.getfield 51, 3) := dk_180 0 51 (dk_at dksX3_layAnchor_1 12 rfl rfl)
theorem dX3_layAnchor_39 : decode cX3_layAnchor 39 = .ok (.iload 8, 2) := dk_21 8 (dk_at dksX3_layAnchor_1 15 rfl rfl)
theorem dX3_layAnchor_41 : decode cX3_layAnchor 41 = .ok (.iaload, 1) := dk_46 (dk_at dksX3_layAnchor_1 17 rfl rfl)
theorem dX3_layAnchor_42 : decode cX3_layAnchor 42 = .ok (.istore 9, 2) := dk_54 9 (dk_at dksX3_layAnchor_1 18 rfl rfl)
theorem dX3_layAnchor_44 : decode cX3_layAnchor 44 = .ok (.iload 7, 2) := dk_21 7 (dk_at dksX3_layAnchor_1 20 rfl rfl)
theorem dX3_layAnchor_46 : decode cX3_layAnchor 46 = .ok (.ifCond .eq 28, 3) := dk_153 0 28 (dk_at dksX3_layAnchor_2 0 rfl rfl)
theorem dX3_layAnchor_49 : decode cX3_layAnchor 49 = .ok (.iload 9, 2) := dk_21 9 (dk_at dksX3_layAnchor_2 3 rfl rfl)
theorem dX3_layAnchor_51 : decode cX3_layAnchor 51 = .ok (.iconst (-1), 1) := dk_2 (dk_at dksX3_layAnchor_2 5 rfl rfl)
theorem dX3_layAnchor_52 : decode cX3_layAnchor 52 = .ok (.if_icmp .eq 22, 3) := dk_159 0 22 (dk_at dksX3_layAnchor_2 6 rfl rfl)
theorem dX3_layAnchor_55 : decode cX3_layAnchor 55 = .ok (.iload 8, 2) := dk_21 8 (dk_at dksX3_layAnchor_2 9 rfl rfl)
theorem dX3_layAnchor_57 : decode cX3_layAnchor 57 = .ok (.iload_n 2, 1) := dk_28 (dk_at dksX3_layAnchor_2 11 rfl rfl)
theorem dX3_layAnchor_58 : decode cX3_layAnchor 58 = .ok (.if_icmp .eq 12, 3) := dk_159 0 12 (dk_at dksX3_layAnchor_2 12 rfl rfl)
theorem dX3_layAnchor_61 : decode cX3_layAnchor 61 = .ok (.iload 9, 2) := dk_21 9 (dk_at dksX3_layAnchor_2 15 rfl rfl)
theorem dX3_layAnchor_63 : decode cX3_layAnchor 63 = .ok (.iload 6, 2) := dk_21 6 (dk_at dksX3_layAnchor_2 17 rfl rfl)
theorem dX3_layAnchor_65 : decode cX3_layAnchor 65 = .ok (.iconst 1, 1) := dk_4 (dk_at dksX3_layAnchor_2 19 rfl rfl)
theorem dX3_layAnchor_66 : decode cX3_layAnchor 66 = .ok (.iadd, 1) := dk_96 (dk_at dksX3_layAnchor_2 20 rfl rfl)
theorem dX3_layAnchor_67 : decode cX3_layAnchor 67 = .ok (.if_icmp .ne 7, 3) := dk_160 0 7 (dk_at dksX3_layAnchor_2 21 rfl rfl)
theorem dX3_layAnchor_70 : decode cX3_layAnchor 70 = .ok (.iconst 1, 1) := dk_4 (dk_at dksX3_layAnchor_3 0 rfl rfl)
theorem dX3_layAnchor_71 : decode cX3_layAnchor 71 = .ok (.goto 4, 3) := dk_167 0 4 (dk_at dksX3_layAnchor_3 1 rfl rfl)
theorem dX3_layAnchor_74 : decode cX3_layAnchor 74 = .ok (.iconst 0, 1) := dk_3 (dk_at dksX3_layAnchor_3 4 rfl rfl)
theorem dX3_layAnchor_75 : decode cX3_layAnchor 75 = .ok (.istore 7, 2) := dk_54 7 (dk_at dksX3_layAnchor_3 5 rfl rfl)
theorem dX3_layAnchor_77 : decode cX3_layAnchor 77 = .ok (.iload 9, 2) := dk_21 9 (dk_at dksX3_layAnchor_3 7 rfl rfl)
theorem dX3_layAnchor_79 : decode cX3_layAnchor 79 = .ok (.iconst (-1), 1) := dk_2 (dk_at dksX3_layAnchor_3 9 rfl rfl)
theorem dX3_layAnchor_80 : decode cX3_layAnchor 80 = .ok (.if_icmp .eq 25, 3) := dk_159 0 25 (dk_at dksX3_layAnchor_3 10 rfl rfl)
theorem dX3_layAnchor_83 : decode cX3_layAnchor 83 = .ok (.iload 5, 2) := dk_21 5 (dk_at dksX3_layAnchor_3 13 rfl rfl)
theorem dX3_layAnchor_85 : decode cX3_layAnchor 85 = .ok (.iconst (-1), 1) := dk_2 (dk_at dksX3_layAnchor_3 15 rfl rfl)
theorem dX3_layAnchor_86 : decode cX3_layAnchor 86 = .ok (.if_icmp .ne 8, 3) := dk_160 0 8 (dk_at dksX3_layAnchor_3 16 rfl rfl)
theorem dX3_layAnchor_89 : decode cX3_layAnchor 89 = .ok (.iload 9, 2) := dk_21 9 (dk_at dksX3_layAnchor_3 19 rfl rfl)
theorem dX3_layAnchor_91 : decode cX3_layAnchor 91 = .ok (.goto 5, 3) := dk_167 0 5 (dk_at dksX3_layAnchor_3 21 rfl rfl)
theorem dX3_layAnchor_94 : decode cX3_layAnchor 94 = .ok (.iload 5, 2) := dk_21 5 (dk_at dksX3_layAnchor_4 0 rfl rfl)
theorem dX3_layAnchor_96 : decode cX3_layAnchor 96 = .ok (.istore 5, 2) := dk_54 5 (dk_at dksX3_layAnchor_4 2 rfl rfl)
theorem dX3_layAnchor_98 : decode cX3_layAnchor 98 = .ok (.iload 9, 2) := dk_21 9 (dk_at dksX3_layAnchor_4 4 rfl rfl)
theorem dX3_layAnchor_100 : decode cX3_layAnchor 100 = .ok (.istore 6, 2) := dk_54 6 (dk_at dksX3_layAnchor_4 6 rfl rfl)
theorem dX3_layAnchor_102 : decode cX3_layAnchor 102 = .ok (.iinc 4 1, 3) := dk_132 4 1 (dk_at dksX3_layAnchor_4 8 rfl rfl)
theorem dX3_layAnchor_105 : decode cX3_layAnchor 105 = .ok (.iinc 8 1, 3) := dk_132 8 1 (dk_at dksX3_layAnchor_4 11 rfl rfl)
theorem dX3_layAnchor_108 : decode cX3_layAnchor 108 = .ok (.goto (-79), 3) := dk_167 255 177 (dk_at dksX3_layAnchor_4 14 rfl rfl)
theorem dX3_layAnchor_111 : decode cX3_layAnchor 111 = .ok (.aload_n 0, 1) := dk_42 (dk_at dksX3_layAnchor_4 17 rfl rfl)
theorem dX3_layAnchor_112 : decode cX3_layAnchor 112 = .ok (.getfield 63, 3) := dk_180 0 63 (dk_at dksX3_layAnchor_4 18 rfl rfl)
theorem dX3_layAnchor_115 : decode cX3_layAnchor 115 = .ok (.iload_n 1, 1) := dk_27 (dk_at dksX3_layAnchor_4 21 rfl rfl)
theorem dX3_layAnchor_116 : decode cX3_layAnchor 116 = .ok (.iload 4, 2) := dk_21 4 (dk_at dksX3_layAnchor_4 22 rfl rfl)
theorem dX3_layAnchor_118 : decode cX3_layAnchor 118 = .ok (.iastore, 1) := dk_79 (dk_at dksX3_layAnchor_5 0 rfl rfl)
theorem dX3_layAnchor_119 : decode cX3_layAnchor 119 = .ok (.aload_n 0, 1) := dk_42 (dk_at dksX3_layAnchor_5 1 rfl rfl)
theorem dX3_layAnchor_120 : decode cX3_layAnchor 120 = .ok (.aload_n 0, 1) := dk_42 (dk_at dksX3_layAnchor_5 2 rfl rfl)
theorem dX3_layAnchor_121 : decode cX3_layAnchor 121 = .ok (.iload_n 1, 1) := dk_27 (dk_at dksX3_layAnchor_5 3 rfl rfl)
theorem dX3_layAnchor_122 : decode cX3_layAnchor 122 = .ok (.iconst 2, 1) := dk_5 (dk_at dksX3_layAnchor_5 4 rfl rfl)
theorem dX3_layAnchor_123 : decode cX3_layAnchor 123 = .ok (.invokevirtual 205, 3) := dk_182 0 205 (dk_at dksX3_layAnchor_5 5 rfl rfl)
theorem dX3_layAnchor_126 : decode cX3_layAnchor 126 = .ok (.iload_n 2, 1) := dk_28 (dk_at dksX3_layAnchor_5 8 rfl rfl)
theorem dX3_layAnchor_127 : decode cX3_layAnchor 127 = .ok (.iload_n 3, 1) := dk_29 (dk_at dksX3_layAnchor_5 9 rfl rfl)
theorem dX3_layAnchor_128 : decode cX3_layAnchor 128 = .ok (.invokevirtual 255, 3) := dk_182 0 255 (dk_at dksX3_layAnchor_5 10 rfl rfl)
theorem dX3_layAnchor_131 : decode cX3_layAnchor 131 = .ok (.istore 8, 2) := dk_54 8 (dk_at dksX3_layAnchor_5 13 rfl rfl)
theorem dX3_layAnchor_133 : decode cX3_layAnchor 133 = .ok (.iload 7, 2) := dk_21 7 (dk_at dksX3_layAnchor_5 15 rfl rfl)
theorem dX3_layAnchor_135 : decode cX3_layAnchor 135 = .ok (.ifCond .ne 15, 3) := dk_154 0 15 (dk_at dksX3_layAnchor_5 17 rfl rfl)
theorem dX3_layAnchor_138 : decode cX3_layAnchor 138 = .ok (.iconst 2, 1) := dk_5 (dk_at dksX3_layAnchor_5 20 rfl rfl)
theorem dX3_layAnchor_139 : decode cX3_layAnchor 139 = .ok (.iload 4, 2) := dk_21 4 (dk_at dksX3_layAnchor_5 21 rfl rfl)
theorem dX3_layAnchor_141 : decode cX3_layAnchor 141 = .ok (.imul, 1) := dk_104 (dk_at dksX3_layAnchor_5 23 rfl rfl)
theorem dX3_layAnchor_142 : decode cX3_layAnchor 142 = .ok (.iload_n 3, 1) := dk_29 (dk_at dksX3_layAnchor_6 0 rfl rfl)
theorem dX3_layAnchor_143 : decode cX3_layAnchor 143 = .ok (.iload_n 2, 1) := dk_28 (dk_at dksX3_layAnchor_6 1 rfl rfl)
theorem dX3_layAnchor_144 : decode cX3_layAnchor 144 = .ok (.isub, 1) := dk_100 (dk_at dksX3_layAnchor_6 2 rfl rfl)
theorem dX3_layAnchor_145 : decode cX3_layAnchor 145 = .ok (.iconst 1, 1) := dk_4 (dk_at dksX3_layAnchor_6 3 rfl rfl)
theorem dX3_layAnchor_146 : decode cX3_layAnchor 146 = .ok (.iadd, 1) := dk_96 (dk_at dksX3_layAnchor_6 4 rfl rfl)
theorem dX3_layAnchor_147 : decode cX3_layAnchor 147 = .ok (.if_icmp .lt 22, 3) := dk_161 0 22 (dk_at dksX3_layAnchor_6 5 rfl rfl)
theorem dX3_layAnchor_150 : decode cX3_layAnchor 150 = .ok (.aload_n 0, 1) := dk_42 (dk_at dksX3_layAnchor_6 8 rfl rfl)
theorem dX3_layAnchor_151 : decode cX3_layAnchor 151 = .ok (.getfield 54, 3) := dk_180 0 54 (dk_at dksX3_layAnchor_6 9 rfl rfl)
theorem dX3_layAnchor_154 : decode cX3_layAnchor 154 = .ok (.iload_n 1, 1) := dk_27 (dk_at dksX3_layAnchor_6 12 rfl rfl)
theorem dX3_layAnchor_155 : decode cX3_layAnchor 155 = .ok (.iload 7, 2) := dk_21 7 (dk_at dksX3_layAnchor_6 13 rfl rfl)
theorem dX3_layAnchor_157 : decode cX3_layAnchor 157 = .ok (.ifCond .eq 7, 3) := dk_153 0 7 (dk_at dksX3_layAnchor_6 15 rfl rfl)
theorem dX3_layAnchor_160 : decode cX3_layAnchor 160 = .ok (.iconst 0, 1) := dk_3 (dk_at dksX3_layAnchor_6 18 rfl rfl)
theorem dX3_layAnchor_161 : decode cX3_layAnchor 161 = .ok (.goto 4, 3) := dk_167 0 4 (dk_at dksX3_layAnchor_6 19 rfl rfl)
theorem dX3_layAnchor_164 : decode cX3_layAnchor 164 = .ok (.iconst 1, 1) := dk_4 (dk_at dksX3_layAnchor_6 22 rfl rfl)
theorem dX3_layAnchor_165 : decode cX3_layAnchor 165 = .ok (.iastore, 1) := dk_79 (dk_at dksX3_layAnchor_6 23 rfl rfl)
theorem dX3_layAnchor_166 : decode cX3_layAnchor 166 = .ok (.goto 43, 3) := dk_167 0 43 (dk_at dksX3_layAnchor_7 0 rfl rfl)
theorem dX3_layAnchor_169 : decode cX3_layAnchor 169 = .ok (.aload_n 0, 1) := dk_42 (dk_at dksX3_layAnchor_7 3 rfl rfl)
theorem dX3_layAnchor_170 : decode cX3_layAnchor 170 = .ok (.getfield 54, 3) := dk_180 0 54 (dk_at dksX3_layAnchor_7 4 rfl rfl)
theorem dX3_layAnchor_173 : decode cX3_layAnchor 173 = .ok (.iload_n 1, 1) := dk_27 (dk_at dksX3_layAnchor_7 7 rfl rfl)
theorem dX3_layAnchor_174 : decode cX3_layAnchor 174 = .ok (.iload 8, 2) := dk_21 8 (dk_at dksX3_layAnchor_7 8 rfl rfl)
theorem dX3_layAnchor_176 : decode cX3_layAnchor 176 = .ok (.iconst (-1), 1) := dk_2 (dk_at dksX3_layAnchor_7 10 rfl rfl)
theorem dX3_layAnchor_177 : decode cX3_layAnchor 177 = .ok (.if_icmp .ne 7, 3) := dk_160 0 7 (dk_at dksX3_layAnchor_7 11 rfl rfl)
theorem dX3_layAnchor_180 : decode cX3_layAnchor 180 = .ok (.iconst 3, 1) := dk_6 (dk_at dksX3_layAnchor_7 14 rfl rfl)
theorem dX3_layAnchor_181 : decode cX3_layAnchor 181 = .ok (.goto 4, 3) := dk_167 0 4 (dk_at dksX3_layAnchor_7 15 rfl rfl)
theorem dX3_layAnchor_184 : decode cX3_layAnchor 184 = .ok (.iconst 2, 1) := dk_5 (dk_at dksX3_layAnchor_7 18 rfl rfl)
theorem dX3_layAnchor_185 : decode cX3_layAnchor 185 = .ok (.iastore, 1) := dk_79 (dk_at dksX3_layAnchor_7 19 rfl rfl)
theorem dX3_layAnchor_186 : decode cX3_layAnchor 186 = .ok (.iload 8, 2) := dk_21 8 (dk_at dksX3_layAnchor_7 20 rfl rfl)
theorem dX3_layAnchor_188 : decode cX3_layAnchor 188 = .ok (.iconst (-1), 1) := dk_2 (dk_at dksX3_layAnchor_7 22 rfl rfl)
theorem dX3_layAnchor_189 : decode cX3_layAnchor 189 = .ok (.if_icmp .ne 7, 3) := dk_160 0 7 (dk_at dksX3_layAnchor_8 0 rfl rfl)
theorem dX3_layAnchor_192 : decode cX3_layAnchor 192 = .ok (.iconst (-1), 1) := dk_2 (dk_at dksX3_layAnchor_8 3 rfl rfl)
theorem dX3_layAnchor_193 : decode cX3_layAnchor 193 = .ok (.goto 10, 3) := dk_167 0 10 (dk_at dksX3_layAnchor_8 4 rfl rfl)
theorem dX3_layAnchor_196 : decode cX3_layAnchor 196 = .ok (.aload_n 0, 1) := dk_42 (dk_at dksX3_layAnchor_8 7 rfl rfl)
theorem dX3_layAnchor_197 : decode cX3_layAnchor 197 = .ok (.getfield 51, 3) := dk_180 0 51 (dk_at dksX3_layAnchor_8 8 rfl rfl)
theorem dX3_layAnchor_200 : decode cX3_layAnchor 200 = .ok (.iload 8, 2) := dk_21 8 (dk_at dksX3_layAnchor_8 11 rfl rfl)
theorem dX3_layAnchor_202 : decode cX3_layAnchor 202 = .ok (.iaload, 1) := dk_46 (dk_at dksX3_layAnchor_8 13 rfl rfl)
theorem dX3_layAnchor_203 : decode cX3_layAnchor 203 = .ok (.istore 5, 2) := dk_54 5 (dk_at dksX3_layAnchor_8 14 rfl rfl)
theorem dX3_layAnchor_205 : decode cX3_layAnchor 205 = .ok (.iload 5, 2) := dk_21 5 (dk_at dksX3_layAnchor_8 16 rfl rfl)
theorem dX3_layAnchor_207 : decode cX3_layAnchor 207 = .ok (.istore 6, 2) := dk_54 6 (dk_at dksX3_layAnchor_8 18 rfl rfl)
theorem dX3_layAnchor_209 : decode cX3_layAnchor 209 = .ok (.aload_n 0, 1) := dk_42 (dk_at dksX3_layAnchor_8 20 rfl rfl)
theorem dX3_layAnchor_210 : decode cX3_layAnchor 210 = .ok (.getfield 57, 3) := dk_180 0 57 (dk_at dksX3_layAnchor_8 21 rfl rfl)
theorem dX3_layAnchor_213 : decode cX3_layAnchor 213 = .ok (.iload_n 1, 1) := dk_27 (dk_at dksX3_layAnchor_9 0 rfl rfl)
theorem dX3_layAnchor_214 : decode cX3_layAnchor 214 = .ok (.iload 5, 2) := dk_21 5 (dk_at dksX3_layAnchor_9 1 rfl rfl)
theorem dX3_layAnchor_216 : decode cX3_layAnchor 216 = .ok (.iastore, 1) := dk_79 (dk_at dksX3_layAnchor_9 3 rfl rfl)
theorem dX3_layAnchor_217 : decode cX3_layAnchor 217 = .ok (.aload_n 0, 1) := dk_42 (dk_at dksX3_layAnchor_9 4 rfl rfl)
theorem dX3_layAnchor_218 : decode cX3_layAnchor 218 = .ok (.getfield 60, 3) := dk_180 0 60 (dk_at dksX3_layAnchor_9 5 rfl rfl)
theorem dX3_layAnchor_221 : decode cX3_layAnchor 221 = .ok (.iload_n 1, 1) := dk_27 (dk_at dksX3_layAnchor_9 8 rfl rfl)
theorem dX3_layAnchor_222 : decode cX3_layAnchor 222 = .ok (.iload 6, 2) := dk_21 6 (dk_at dksX3_layAnchor_9 9 rfl rfl)
theorem dX3_layAnchor_224 : decode cX3_layAnchor 224 = .ok (.iastore, 1) := dk_79 (dk_at dksX3_layAnchor_9 11 rfl rfl)
theorem dX3_layAnchor_225 : decode cX3_layAnchor 225 = .ok (.return_, 1) := dk_177 (dk_at dksX3_layAnchor_9 12 rfl rfl)
abbrev cX3_nearestWith : ByteArray := prog_16_method_63_code
def yX3_nearestWith : MethodName := ⟨RX3, "nearestWith", "(III)I"⟩
def dkwX3_nearestWith_3 : List UInt8 := [162, 0, 11, 21, 6, 54, 4, 21, 7, 54, 5, 132, 6, 1, 167, 255, 182, 21, 4, 172]
abbrev dktX3_nearestWith_3 : List UInt8 := dkwX3_nearestWith_3 ++ []
def dkwX3_nearestWith_2 : List UInt8 := [54, 7, 42, 180, 0, 51, 21, 6, 46, 2, 159, 0, 24, 21, 4, 2, 159, 0, 10, 21, 7, 21, 5]
abbrev dktX3_nearestWith_2 : List UInt8 := dkwX3_nearestWith_2 ++ dktX3_nearestWith_3
def dkwX3_nearestWith_1 : List UInt8 := [162, 0, 10, 28, 21, 6, 100, 167, 0, 17, 21, 6, 29, 164, 0, 10, 21, 6, 29, 100, 167, 0, 4, 3]
abbrev dktX3_nearestWith_1 : List UInt8 := dkwX3_nearestWith_1 ++ dktX3_nearestWith_2
def dkwX3_nearestWith_0 : List UInt8 := [2, 54, 4, 3, 54, 5, 3, 54, 6, 21, 6, 42, 27, 182, 0, 119, 162, 0, 70, 21, 6, 28]
abbrev dktX3_nearestWith_0 : List UInt8 := dkwX3_nearestWith_0 ++ dktX3_nearestWith_1
theorem dksX3_nearestWith_0 : cX3_nearestWith.data.toList.drop 0 = dktX3_nearestWith_0 := by decide +kernel
theorem dksX3_nearestWith_1 : cX3_nearestWith.data.toList.drop 22 = dktX3_nearestWith_1 := dk_seg dksX3_nearestWith_0 22 rfl rfl
theorem dksX3_nearestWith_2 : cX3_nearestWith.data.toList.drop 46 = dktX3_nearestWith_2 := dk_seg dksX3_nearestWith_1 24 rfl rfl
theorem dksX3_nearestWith_3 : cX3_nearestWith.data.toList.drop 69 = dktX3_nearestWith_3 := dk_seg dksX3_nearestWith_2 23 rfl rfl
theorem dX3_nearestWith_0 : decode cX3_nearestWith 0 = .ok (.iconst (-1), 1) := dk_2 (dk_at dksX3_nearestWith_0 0 rfl rfl)
theorem dX3_nearestWith_1 : decode cX3_nearestWith 1 = .ok (.istore 4, 2) := dk_54 4 (dk_at dksX3_nearestWith_0 1 rfl rfl)
theorem dX3_nearestWith_3 : decode cX3_nearestWith 3 = .ok (.iconst 0, 1) := dk_3 (dk_at dksX3_nearestWith_0 3 rfl rfl)
theorem dX3_nearestWith_4 : decode cX3_nearestWith 4 = .ok (.istore 5, 2) := dk_54 5 (dk_at dksX3_nearestWith_0 4 rfl rfl)
theorem dX3_nearestWith_6 : decode cX3_nearestWith 6 = .ok (.iconst 0, 1) := dk_3 (dk_at dksX3_nearestWith_0 6 rfl rfl)
theorem dX3_nearestWith_7 : decode cX3_nearestWith 7 = .ok (.istore 6, 2) := dk_54 6 (dk_at dksX3_nearestWith_0 7 rfl rfl)
theorem dX3_nearestWith_9 : decode cX3_nearestWith 9 = .ok (.iload 6, 2) := dk_21 6 (dk_at dksX3_nearestWith_0 9 rfl rfl)
theorem dX3_nearestWith_11 : decode cX3_nearestWith 11 = .ok (.aload_n 0, 1) := dk_42 (dk_at dksX3_nearestWith_0 11 rfl rfl)
theorem dX3_nearestWith_12 : decode cX3_nearestWith 12 = .ok (.iload_n 1, 1) := dk_27 (dk_at dksX3_nearestWith_0 12 rfl rfl)
theorem dX3_nearestWith_13 : decode cX3_nearestWith 13 = .ok (.invokevirtual 119, 3) := dk_182 0 119 (dk_at dksX3_nearestWith_0 13 rfl rfl)
theorem dX3_nearestWith_16 : decode cX3_nearestWith 16 = .ok (.if_icmp .ge 70, 3) := dk_162 0 70 (dk_at dksX3_nearestWith_0 16 rfl rfl)
theorem dX3_nearestWith_19 : decode cX3_nearestWith 19 = .ok (.iload 6, 2) := dk_21 6 (dk_at dksX3_nearestWith_0 19 rfl rfl)
theorem dX3_nearestWith_21 : decode cX3_nearestWith 21 = .ok (.iload_n 2, 1) := dk_28 (dk_at dksX3_nearestWith_0 21 rfl rfl)
theorem dX3_nearestWith_22 : decode cX3_nearestWith 22 = .ok (.if_icmp .ge 10, 3) := dk_162 0 10 (dk_at dksX3_nearestWith_1 0 rfl rfl)
theorem dX3_nearestWith_25 : decode cX3_nearestWith 25 = .ok (.iload_n 2, 1) := dk_28 (dk_at dksX3_nearestWith_1 3 rfl rfl)
theorem dX3_nearestWith_26 : decode cX3_nearestWith 26 = .ok (.iload 6, 2) := dk_21 6 (dk_at dksX3_nearestWith_1 4 rfl rfl)
theorem dX3_nearestWith_28 : decode cX3_nearestWith 28 = .ok (.isub, 1) := dk_100 (dk_at dksX3_nearestWith_1 6 rfl rfl)
theorem dX3_nearestWith_29 : decode cX3_nearestWith 29 = .ok (.goto 17, 3) := dk_167 0 17 (dk_at dksX3_nearestWith_1 7 rfl rfl)
theorem dX3_nearestWith_32 : decode cX3_nearestWith 32 = .ok (.iload 6, 2) := dk_21 6 (dk_at dksX3_nearestWith_1 10 rfl rfl)
theorem dX3_nearestWith_34 : decode cX3_nearestWith 34 = .ok (.iload_n 3, 1) := dk_29 (dk_at dksX3_nearestWith_1 12 rfl rfl)
theorem dX3_nearestWith_35 : decode cX3_nearestWith 35 = .ok (.if_icmp .le 10, 3) := dk_164 0 10 (dk_at dksX3_nearestWith_1 13 rfl rfl)
theorem dX3_nearestWith_38 : decode cX3_nearestWith 38 = .ok (.iload 6, 2) := dk_21 6 (dk_at dksX3_nearestWith_1 16 rfl rfl)
theorem dX3_nearestWith_40 : decode cX3_nearestWith 40 = .ok (.iload_n 3, 1) := dk_29 (dk_at dksX3_nearestWith_1 18 rfl rfl)
theorem dX3_nearestWith_41 : decode cX3_nearestWith 41 = .ok (.isub, 1) := dk_100 (dk_at dksX3_nearestWith_1 19 rfl rfl)
theorem dX3_nearestWith_42 : decode cX3_nearestWith 42 = .ok (.goto 4, 3) := dk_167 0 4 (dk_at dksX3_nearestWith_1 20 rfl rfl)
theorem dX3_nearestWith_45 : decode cX3_nearestWith 45 = .ok (.iconst 0, 1) := dk_3 (dk_at dksX3_nearestWith_1 23 rfl rfl)
theorem dX3_nearestWith_46 : decode cX3_nearestWith 46 = .ok (.istore 7, 2) := dk_54 7 (dk_at dksX3_nearestWith_2 0 rfl rfl)
theorem dX3_nearestWith_48 : decode cX3_nearestWith 48 = .ok (.aload_n 0, 1) := dk_42 (dk_at dksX3_nearestWith_2 2 rfl rfl)
theorem dX3_nearestWith_49 : decode cX3_nearestWith 49 = .ok (.getfield 51, 3) := dk_180 0 51 (dk_at dksX3_nearestWith_2 3 rfl rfl)
theorem dX3_nearestWith_52 : decode cX3_nearestWith 52 = .ok (.iload 6, 2) := dk_21 6 (dk_at dksX3_nearestWith_2 6 rfl rfl)
theorem dX3_nearestWith_54 : decode cX3_nearestWith 54 = .ok (.iaload, 1) := dk_46 (dk_at dksX3_nearestWith_2 8 rfl rfl)
theorem dX3_nearestWith_55 : decode cX3_nearestWith 55 = .ok (.iconst (-1), 1) := dk_2 (dk_at dksX3_nearestWith_2 9 rfl rfl)
theorem dX3_nearestWith_56 : decode cX3_nearestWith 56 = .ok (.if_icmp .eq 24, 3) := dk_159 0 24 (dk_at dksX3_nearestWith_2 10 rfl rfl)
theorem dX3_nearestWith_59 : decode cX3_nearestWith 59 = .ok (.iload 4, 2) := dk_21 4 (dk_at dksX3_nearestWith_2 13 rfl rfl)
theorem dX3_nearestWith_61 : decode cX3_nearestWith 61 = .ok (.iconst (-1), 1) := dk_2 (dk_at dksX3_nearestWith_2 15 rfl rfl)
theorem dX3_nearestWith_62 : decode cX3_nearestWith 62 = .ok (.if_icmp .eq 10, 3) := dk_159 0 10 (dk_at dksX3_nearestWith_2 16 rfl rfl)
theorem dX3_nearestWith_65 : decode cX3_nearestWith 65 = .ok (.iload 7, 2) := dk_21 7 (dk_at dksX3_nearestWith_2 19 rfl rfl)
theorem dX3_nearestWith_67 : decode cX3_nearestWith 67 = .ok (.iload 5, 2) := dk_21 5 (dk_at dksX3_nearestWith_2 21 rfl rfl)
theorem dX3_nearestWith_69 : decode cX3_nearestWith 69 = .ok (.if_icmp .ge 11, 3) := dk_162 0 11 (dk_at dksX3_nearestWith_3 0 rfl rfl)
theorem dX3_nearestWith_72 : decode cX3_nearestWith 72 = .ok (.iload 6, 2) := dk_21 6 (dk_at dksX3_nearestWith_3 3 rfl rfl)
theorem dX3_nearestWith_74 : decode cX3_nearestWith 74 = .ok (.istore 4, 2) := dk_54 4 (dk_at dksX3_nearestWith_3 5 rfl rfl)
theorem dX3_nearestWith_76 : decode cX3_nearestWith 76 = .ok (.iload 7, 2) := dk_21 7 (dk_at dksX3_nearestWith_3 7 rfl rfl)
theorem dX3_nearestWith_78 : decode cX3_nearestWith 78 = .ok (.istore 5, 2) := dk_54 5 (dk_at dksX3_nearestWith_3 9 rfl rfl)
theorem dX3_nearestWith_80 : decode cX3_nearestWith 80 = .ok (.iinc 6 1, 3) := dk_132 6 1 (dk_at dksX3_nearestWith_3 11 rfl rfl)
theorem dX3_nearestWith_83 : decode cX3_nearestWith 83 = .ok (.goto (-74), 3) := dk_167 255 182 (dk_at dksX3_nearestWith_3 14 rfl rfl)
theorem dX3_nearestWith_86 : decode cX3_nearestWith 86 = .ok (.iload 4, 2) := dk_21 4 (dk_at dksX3_nearestWith_3 17 rfl rfl)
theorem dX3_nearestWith_88 : decode cX3_nearestWith 88 = .ok (.ireturn, 1) := dk_172 (dk_at dksX3_nearestWith_3 19 rfl rfl)
abbrev cX3_spread : ByteArray := prog_16_method_75_code
def yX3_spread : MethodName := ⟨RX3, "spread", "(I)V"⟩
def dkwX3_spread_4 : List UInt8 := [132, 3, 1, 167, 255, 182, 177]
abbrev dktX3_spread_4 : List UInt8 := dkwX3_spread_4 ++ []
def dkwX3_spread_3 : List UInt8 := [42, 180, 0, 161, 79, 42, 180, 0, 87, 28, 21, 4, 79, 132, 2, 1, 132, 4, 1, 167, 255, 196]
abbrev dktX3_spread_3 : List UInt8 := dkwX3_spread_3 ++ dktX3_spread_4
def dkwX3_spread_2 : List UInt8 := [160, 0, 40, 42, 42, 180, 0, 87, 29, 46, 21, 4, 182, 1, 26, 153, 0, 25, 42, 180, 0, 66, 21, 4]
abbrev dktX3_spread_2 : List UInt8 := dkwX3_spread_2 ++ dktX3_spread_3
def dkwX3_spread_1 : List UInt8 := [162, 0, 75, 3, 54, 4, 21, 4, 42, 182, 0, 126, 162, 0, 57, 42, 180, 0, 66, 21, 4, 46, 2]
abbrev dktX3_spread_1 : List UInt8 := dkwX3_spread_1 ++ dktX3_spread_2
def dkwX3_spread_0 : List UInt8 := [42, 180, 0, 87, 3, 27, 79, 42, 180, 0, 66, 27, 42, 180, 0, 161, 79, 4, 61, 3, 62, 29, 28]
abbrev dktX3_spread_0 : List UInt8 := dkwX3_spread_0 ++ dktX3_spread_1
theorem dksX3_spread_0 : cX3_spread.data.toList.drop 0 = dktX3_spread_0 := by decide +kernel
theorem dksX3_spread_1 : cX3_spread.data.toList.drop 23 = dktX3_spread_1 := dk_seg dksX3_spread_0 23 rfl rfl
theorem dksX3_spread_2 : cX3_spread.data.toList.drop 46 = dktX3_spread_2 := dk_seg dksX3_spread_1 23 rfl rfl
theorem dksX3_spread_3 : cX3_spread.data.toList.drop 70 = dktX3_spread_3 := dk_seg dksX3_spread_2 24 rfl rfl
theorem dksX3_spread_4 : cX3_spread.data.toList.drop 92 = dktX3_spread_4 := dk_seg dksX3_spread_3 22 rfl rfl
theorem dX3_spread_0 : decode cX3_spread 0 = .ok (.aload_n 0, 1) := dk_42 (dk_at dksX3_spread_0 0 rfl rfl)
theorem dX3_spread_1 : decode cX3_spread 1 = .ok (.getfield 87, 3) := dk_180 0 87 (dk_at dksX3_spread_0 1 rfl rfl)
theorem dX3_spread_4 : decode cX3_spread 4 = .ok (.iconst 0, 1) := dk_3 (dk_at dksX3_spread_0 4 rfl rfl)
theorem dX3_spread_5 : decode cX3_spread 5 = .ok (.iload_n 1, 1) := dk_27 (dk_at dksX3_spread_0 5 rfl rfl)
theorem dX3_spread_6 : decode cX3_spread 6 = .ok (.iastore, 1) := dk_79 (dk_at dksX3_spread_0 6 rfl rfl)
theorem dX3_spread_7 : decode cX3_spread 7 = .ok (.aload_n 0, 1) := dk_42 (dk_at dksX3_spread_0 7 rfl rfl)
theorem dX3_spread_8 : decode cX3_spread 8 = .ok (.getfield 66, 3) := dk_180 0 66 (dk_at dksX3_spread_0 8 rfl rfl)
theorem dX3_spread_11 : decode cX3_spread 11 = .ok (.iload_n 1, 1) := dk_27 (dk_at dksX3_spread_0 11 rfl rfl)
theorem dX3_spread_12 : decode cX3_spread 12 = .ok (.aload_n 0, 1) := dk_42 (dk_at dksX3_spread_0 12 rfl rfl)
theorem dX3_spread_13 : decode cX3_spread 13 = .ok (.getfield 161, 3) := dk_180 0 161 (dk_at dksX3_spread_0 13 rfl rfl)
theorem dX3_spread_16 : decode cX3_spread 16 = .ok (.iastore, 1) := dk_79 (dk_at dksX3_spread_0 16 rfl rfl)
theorem dX3_spread_17 : decode cX3_spread 17 = .ok (.iconst 1, 1) := dk_4 (dk_at dksX3_spread_0 17 rfl rfl)
theorem dX3_spread_18 : decode cX3_spread 18 = .ok (.istore_n 2, 1) := dk_61 (dk_at dksX3_spread_0 18 rfl rfl)
theorem dX3_spread_19 : decode cX3_spread 19 = .ok (.iconst 0, 1) := dk_3 (dk_at dksX3_spread_0 19 rfl rfl)
theorem dX3_spread_20 : decode cX3_spread 20 = .ok (.istore_n 3, 1) := dk_62 (dk_at dksX3_spread_0 20 rfl rfl)
theorem dX3_spread_21 : decode cX3_spread 21 = .ok (.iload_n 3, 1) := dk_29 (dk_at dksX3_spread_0 21 rfl rfl)
theorem dX3_spread_22 : decode cX3_spread 22 = .ok (.iload_n 2, 1) := dk_28 (dk_at dksX3_spread_0 22 rfl rfl)
theorem dX3_spread_23 : decode cX3_spread 23 = .ok (.if_icmp .ge 75, 3) := dk_162 0 75 (dk_at dksX3_spread_1 0 rfl rfl)
theorem dX3_spread_26 : decode cX3_spread 26 = .ok (.iconst 0, 1) := dk_3 (dk_at dksX3_spread_1 3 rfl rfl)
theorem dX3_spread_27 : decode cX3_spread 27 = .ok (.istore 4, 2) := dk_54 4 (dk_at dksX3_spread_1 4 rfl rfl)
theorem dX3_spread_29 : decode cX3_spread 29 = .ok (.iload 4, 2) := dk_21 4 (dk_at dksX3_spread_1 6 rfl rfl)
theorem dX3_spread_31 : decode cX3_spread 31 = .ok (.aload_n 0, 1) := dk_42 (dk_at dksX3_spread_1 8 rfl rfl)
theorem dX3_spread_32 : decode cX3_spread 32 = .ok (.invokevirtual 126, 3) := dk_182 0 126 (dk_at dksX3_spread_1 9 rfl rfl)
theorem dX3_spread_35 : decode cX3_spread 35 = .ok (.if_icmp .ge 57, 3) := dk_162 0 57 (dk_at dksX3_spread_1 12 rfl rfl)
theorem dX3_spread_38 : decode cX3_spread 38 = .ok (.aload_n 0, 1) := dk_42 (dk_at dksX3_spread_1 15 rfl rfl)
theorem dX3_spread_39 : decode cX3_spread 39 = .ok (.getfield 66, 3) := dk_180 0 66 (dk_at dksX3_spread_1 16 rfl rfl)
theorem dX3_spread_42 : decode cX3_spread 42 = .ok (.iload 4, 2) := dk_21 4 (dk_at dksX3_spread_1 19 rfl rfl)
theorem dX3_spread_44 : decode cX3_spread 44 = .ok (.iaload, 1) := dk_46 (dk_at dksX3_spread_1 21 rfl rfl)
theorem dX3_spread_45 : decode cX3_spread 45 = .ok (.iconst (-1), 1) := dk_2 (dk_at dksX3_spread_1 22 rfl rfl)
theorem dX3_spread_46 : decode cX3_spread 46 = .ok (.if_icmp .ne 40, 3) := dk_160 0 40 (dk_at dksX3_spread_2 0 rfl rfl)
theorem dX3_spread_49 : decode cX3_spread 49 = .ok (.aload_n 0, 1) := dk_42 (dk_at dksX3_spread_2 3 rfl rfl)
theorem dX3_spread_50 : decode cX3_spread 50 = .ok (.aload_n 0, 1) := dk_42 (dk_at dksX3_spread_2 4 rfl rfl)
theorem dX3_spread_51 : decode cX3_spread 51 = .ok (.getfield 87, 3) := dk_180 0 87 (dk_at dksX3_spread_2 5 rfl rfl)
theorem dX3_spread_54 : decode cX3_spread 54 = .ok (.iload_n 3, 1) := dk_29 (dk_at dksX3_spread_2 8 rfl rfl)
theorem dX3_spread_55 : decode cX3_spread 55 = .ok (.iaload, 1) := dk_46 (dk_at dksX3_spread_2 9 rfl rfl)
theorem dX3_spread_56 : decode cX3_spread 56 = .ok (.iload 4, 2) := dk_21 4 (dk_at dksX3_spread_2 10 rfl rfl)
theorem dX3_spread_58 : decode cX3_spread 58 = .ok (.invokevirtual 282, 3) := dk_182 1 26 (dk_at dksX3_spread_2 12 rfl rfl)
theorem dX3_spread_61 : decode cX3_spread 61 = .ok (.ifCond .eq 25, 3) := dk_153 0 25 (dk_at dksX3_spread_2 15 rfl rfl)
theorem dX3_spread_64 : decode cX3_spread 64 = .ok (.aload_n 0, 1) := dk_42 (dk_at dksX3_spread_2 18 rfl rfl)
theorem dX3_spread_65 : decode cX3_spread 65 = .ok (.getfield 66, 3) := dk_180 0 66 (dk_at dksX3_spread_2 19 rfl rfl)
theorem dX3_spread_68 : decode cX3_spread 68 = .ok (.iload 4, 2) := dk_21 4 (dk_at dksX3_spread_2 22 rfl rfl)
theorem dX3_spread_70 : decode cX3_spread 70 = .ok (.aload_n 0, 1) := dk_42 (dk_at dksX3_spread_3 0 rfl rfl)
theorem dX3_spread_71 : decode cX3_spread 71 = .ok (.getfield 161, 3) := dk_180 0 161 (dk_at dksX3_spread_3 1 rfl rfl)
theorem dX3_spread_74 : decode cX3_spread 74 = .ok (.iastore, 1) := dk_79 (dk_at dksX3_spread_3 4 rfl rfl)
theorem dX3_spread_75 : decode cX3_spread 75 = .ok (.aload_n 0, 1) := dk_42 (dk_at dksX3_spread_3 5 rfl rfl)
theorem dX3_spread_76 : decode cX3_spread 76 = .ok (.getfield 87, 3) := dk_180 0 87 (dk_at dksX3_spread_3 6 rfl rfl)
theorem dX3_spread_79 : decode cX3_spread 79 = .ok (.iload_n 2, 1) := dk_28 (dk_at dksX3_spread_3 9 rfl rfl)
theorem dX3_spread_80 : decode cX3_spread 80 = .ok (.iload 4, 2) := dk_21 4 (dk_at dksX3_spread_3 10 rfl rfl)
theorem dX3_spread_82 : decode cX3_spread 82 = .ok (.iastore, 1) := dk_79 (dk_at dksX3_spread_3 12 rfl rfl)
theorem dX3_spread_83 : decode cX3_spread 83 = .ok (.iinc 2 1, 3) := dk_132 2 1 (dk_at dksX3_spread_3 13 rfl rfl)
theorem dX3_spread_86 : decode cX3_spread 86 = .ok (.iinc 4 1, 3) := dk_132 4 1 (dk_at dksX3_spread_3 16 rfl rfl)
theorem dX3_spread_89 : decode cX3_spread 89 = .ok (.goto (-60), 3) := dk_167 255 196 (dk_at dksX3_spread_3 19 rfl rfl)
theorem dX3_spread_92 : decode cX3_spread 92 = .ok (.iinc 3 1, 3) := dk_132 3 1 (dk_at dksX3_spread_4 0 rfl rfl)
theorem dX3_spread_95 : decode cX3_spread 95 = .ok (.goto (-74), 3) := dk_167 255 182 (dk_at dksX3_spread_4 3 rfl rfl)
theorem dX3_spread_98 : decode cX3_spread 98 = .ok (.return_, 1) := dk_177 (dk_at dksX3_spread_4 6 rfl rfl)
abbrev cX3_alike : ByteArray := prog_16_method_73_code
def yX3_alike : MethodName := ⟨RX3, "alike", "(II)Z"⟩
def dkwX3_alike_6 : List UInt8 := [184, 0, 215, 161, 0, 16, 42, 27, 28, 182, 1, 23, 153, 0, 7, 4, 167, 0, 4, 3, 172]
abbrev dktX3_alike_6 : List UInt8 := dkwX3_alike_6 ++ []
def dkwX3_alike_5 : List UInt8 := [180, 0, 60, 28, 46, 42, 180, 0, 57, 28, 46, 100, 4, 96, 54, 8, 5, 21, 6, 104, 21, 7, 21, 8]
abbrev dktX3_alike_5 : List UInt8 := dkwX3_alike_5 ++ dktX3_alike_6
def dkwX3_alike_4 : List UInt8 := [184, 0, 246, 54, 6, 42, 180, 0, 60, 27, 46, 42, 180, 0, 57, 27, 46, 100, 4, 96, 54, 7, 42]
abbrev dktX3_alike_4 : List UInt8 := dkwX3_alike_4 ++ dktX3_alike_5
def dkwX3_alike_3 : List UInt8 := [180, 0, 60, 27, 46, 42, 180, 0, 60, 28, 46, 184, 0, 215, 54, 5, 3, 21, 5, 21, 4, 100, 4, 96]
abbrev dktX3_alike_3 : List UInt8 := dkwX3_alike_3 ++ dktX3_alike_4
def dkwX3_alike_2 : List UInt8 := [159, 0, 5, 3, 172, 42, 180, 0, 57, 27, 46, 42, 180, 0, 57, 28, 46, 184, 0, 246, 54, 4, 42]
abbrev dktX3_alike_2 : List UInt8 := dkwX3_alike_2 ++ dktX3_alike_3
def dkwX3_alike_1 : List UInt8 := [3, 62, 27, 28, 159, 0, 22, 29, 153, 0, 18, 42, 27, 4, 182, 0, 205, 42, 28, 4, 182, 0, 205]
abbrev dktX3_alike_1 : List UInt8 := dkwX3_alike_1 ++ dktX3_alike_2
def dkwX3_alike_0 : List UInt8 := [42, 180, 0, 54, 27, 46, 6, 159, 0, 17, 42, 180, 0, 54, 28, 46, 6, 159, 0, 7, 4, 167, 0, 4]
abbrev dktX3_alike_0 : List UInt8 := dkwX3_alike_0 ++ dktX3_alike_1
theorem dksX3_alike_0 : cX3_alike.data.toList.drop 0 = dktX3_alike_0 := by decide +kernel
theorem dksX3_alike_1 : cX3_alike.data.toList.drop 24 = dktX3_alike_1 := dk_seg dksX3_alike_0 24 rfl rfl
theorem dksX3_alike_2 : cX3_alike.data.toList.drop 47 = dktX3_alike_2 := dk_seg dksX3_alike_1 23 rfl rfl
theorem dksX3_alike_3 : cX3_alike.data.toList.drop 70 = dktX3_alike_3 := dk_seg dksX3_alike_2 23 rfl rfl
theorem dksX3_alike_4 : cX3_alike.data.toList.drop 94 = dktX3_alike_4 := dk_seg dksX3_alike_3 24 rfl rfl
theorem dksX3_alike_5 : cX3_alike.data.toList.drop 117 = dktX3_alike_5 := dk_seg dksX3_alike_4 23 rfl rfl
theorem dksX3_alike_6 : cX3_alike.data.toList.drop 141 = dktX3_alike_6 := dk_seg dksX3_alike_5 24 rfl rfl
theorem dX3_alike_0 : decode cX3_alike 0 = .ok (.aload_n 0, 1) := dk_42 (dk_at dksX3_alike_0 0 rfl rfl)
theorem dX3_alike_1 : decode cX3_alike 1 = .ok (.getfield 54, 3) := dk_180 0 54 (dk_at dksX3_alike_0 1 rfl rfl)
theorem dX3_alike_4 : decode cX3_alike 4 = .ok (.iload_n 1, 1) := dk_27 (dk_at dksX3_alike_0 4 rfl rfl)
theorem dX3_alike_5 : decode cX3_alike 5 = .ok (.iaload, 1) := dk_46 (dk_at dksX3_alike_0 5 rfl rfl)
theorem dX3_alike_6 : decode cX3_alike 6 = .ok (.iconst 3, 1) := dk_6 (dk_at dksX3_alike_0 6 rfl rfl)
theorem dX3_alike_7 : decode cX3_alike 7 = .ok (.if_icmp .eq 17, 3) := dk_159 0 17 (dk_at dksX3_alike_0 7 rfl rfl)
theorem dX3_alike_10 : decode cX3_alike 10 = .ok (.aload_n 0, 1) := dk_42 (dk_at dksX3_alike_0 10 rfl rfl)
theorem dX3_alike_11 : decode cX3_alike 11 = .ok (.getfield 54, 3) := dk_180 0 54 (dk_at dksX3_alike_0 11 rfl rfl)
theorem dX3_alike_14 : decode cX3_alike 14 = .ok (.iload_n 2, 1) := dk_28 (dk_at dksX3_alike_0 14 rfl rfl)
theorem dX3_alike_15 : decode cX3_alike 15 = .ok (.iaload, 1) := dk_46 (dk_at dksX3_alike_0 15 rfl rfl)
theorem dX3_alike_16 : decode cX3_alike 16 = .ok (.iconst 3, 1) := dk_6 (dk_at dksX3_alike_0 16 rfl rfl)
theorem dX3_alike_17 : decode cX3_alike 17 = .ok (.if_icmp .eq 7, 3) := dk_159 0 7 (dk_at dksX3_alike_0 17 rfl rfl)
theorem dX3_alike_20 : decode cX3_alike 20 = .ok (.iconst 1, 1) := dk_4 (dk_at dksX3_alike_0 20 rfl rfl)
theorem dX3_alike_21 : decode cX3_alike 21 = .ok (.goto 4, 3) := dk_167 0 4 (dk_at dksX3_alike_0 21 rfl rfl)
theorem dX3_alike_24 : decode cX3_alike 24 = .ok (.iconst 0, 1) := dk_3 (dk_at dksX3_alike_1 0 rfl rfl)
theorem dX3_alike_25 : decode cX3_alike 25 = .ok (.istore_n 3, 1) := dk_62 (dk_at dksX3_alike_1 1 rfl rfl)
theorem dX3_alike_26 : decode cX3_alike 26 = .ok (.iload_n 1, 1) := dk_27 (dk_at dksX3_alike_1 2 rfl rfl)
theorem dX3_alike_27 : decode cX3_alike 27 = .ok (.iload_n 2, 1) := dk_28 (dk_at dksX3_alike_1 3 rfl rfl)
theorem dX3_alike_28 : decode cX3_alike 28 = .ok (.if_icmp .eq 22, 3) := dk_159 0 22 (dk_at dksX3_alike_1 4 rfl rfl)
theorem dX3_alike_31 : decode cX3_alike 31 = .ok (.iload_n 3, 1) := dk_29 (dk_at dksX3_alike_1 7 rfl rfl)
theorem dX3_alike_32 : decode cX3_alike 32 = .ok (.ifCond .eq 18, 3) := dk_153 0 18 (dk_at dksX3_alike_1 8 rfl rfl)
theorem dX3_alike_35 : decode cX3_alike 35 = .ok (.aload_n 0, 1) := dk_42 (dk_at dksX3_alike_1 11 rfl rfl)
theorem dX3_alike_36 : decode cX3_alike 36 = .ok (.iload_n 1, 1) := dk_27 (dk_at dksX3_alike_1 12 rfl rfl)
theorem dX3_alike_37 : decode cX3_alike 37 = .ok (.iconst 1, 1) := dk_4 (dk_at dksX3_alike_1 13 rfl rfl)
theorem dX3_alike_38 : decode cX3_alike 38 = .ok (.invokevirtual 205, 3) := dk_182 0 205 (dk_at dksX3_alike_1 14 rfl rfl)
theorem dX3_alike_41 : decode cX3_alike 41 = .ok (.aload_n 0, 1) := dk_42 (dk_at dksX3_alike_1 17 rfl rfl)
theorem dX3_alike_42 : decode cX3_alike 42 = .ok (.iload_n 2, 1) := dk_28 (dk_at dksX3_alike_1 18 rfl rfl)
theorem dX3_alike_43 : decode cX3_alike 43 = .ok (.iconst 1, 1) := dk_4 (dk_at dksX3_alike_1 19 rfl rfl)
theorem dX3_alike_44 : decode cX3_alike 44 = .ok (.invokevirtual 205, 3) := dk_182 0 205 (dk_at dksX3_alike_1 20 rfl rfl)
theorem dX3_alike_47 : decode cX3_alike 47 = .ok (.if_icmp .eq 5, 3) := dk_159 0 5 (dk_at dksX3_alike_2 0 rfl rfl)
theorem dX3_alike_50 : decode cX3_alike 50 = .ok (.iconst 0, 1) := dk_3 (dk_at dksX3_alike_2 3 rfl rfl)
theorem dX3_alike_51 : decode cX3_alike 51 = .ok (.ireturn, 1) := dk_172 (dk_at dksX3_alike_2 4 rfl rfl)
theorem dX3_alike_52 : decode cX3_alike 52 = .ok (.aload_n 0, 1) := dk_42 (dk_at dksX3_alike_2 5 rfl rfl)
theorem dX3_alike_53 : decode cX3_alike 53 = .ok (.getfield 57, 3) := dk_180 0 57 (dk_at dksX3_alike_2 6 rfl rfl)
theorem dX3_alike_56 : decode cX3_alike 56 = .ok (.iload_n 1, 1) := dk_27 (dk_at dksX3_alike_2 9 rfl rfl)
theorem dX3_alike_57 : decode cX3_alike 57 = .ok (.iaload, 1) := dk_46 (dk_at dksX3_alike_2 10 rfl rfl)
theorem dX3_alike_58 : decode cX3_alike 58 = .ok (.aload_n 0, 1) := dk_42 (dk_at dksX3_alike_2 11 rfl rfl)
theorem dX3_alike_59 : decode cX3_alike 59 = .ok (.getfield 57, 3) := dk_180 0 57 (dk_at dksX3_alike_2 12 rfl rfl)
theorem dX3_alike_62 : decode cX3_alike 62 = .ok (.iload_n 2, 1) := dk_28 (dk_at dksX3_alike_2 15 rfl rfl)
theorem dX3_alike_63 : decode cX3_alike 63 = .ok (.iaload, 1) := dk_46 (dk_at dksX3_alike_2 16 rfl rfl)
theorem dX3_alike_64 : decode cX3_alike 64 = .ok (.invokestatic 246, 3) := dk_184 0 246 (dk_at dksX3_alike_2 17 rfl rfl)
theorem dX3_alike_67 : decode cX3_alike 67 = .ok (.istore 4, 2) := dk_54 4 (dk_at dksX3_alike_2 20 rfl rfl)
theorem dX3_alike_69 : decode cX3_alike 69 = .ok (.aload_n 0, 1) := dk_42 (dk_at dksX3_alike_2 22 rfl rfl)
theorem dX3_alike_70 : decode cX3_alike 70 = .ok (.getfield 60, 3) := dk_180 0 60 (dk_at dksX3_alike_3 0 rfl rfl)
theorem dX3_alike_73 : decode cX3_alike 73 = .ok (.iload_n 1, 1) := dk_27 (dk_at dksX3_alike_3 3 rfl rfl)
theorem dX3_alike_74 : decode cX3_alike 74 = .ok (.iaload, 1) := dk_46 (dk_at dksX3_alike_3 4 rfl rfl)
theorem dX3_alike_75 : decode cX3_alike 75 = .ok (.aload_n 0, 1) := dk_42 (dk_at dksX3_alike_3 5 rfl rfl)
theorem dX3_alike_76 : decode cX3_alike 76 = .ok (.getfield 60, 3) := dk_180 0 60 (dk_at dksX3_alike_3 6 rfl rfl)
theorem dX3_alike_79 : decode cX3_alike 79 = .ok (.iload_n 2, 1) := dk_28 (dk_at dksX3_alike_3 9 rfl rfl)
theorem dX3_alike_80 : decode cX3_alike 80 = .ok (.iaload, 1) := dk_46 (dk_at dksX3_alike_3 10 rfl rfl)
theorem dX3_alike_81 : decode cX3_alike 81 = .ok (.invokestatic 215, 3) := dk_184 0 215 (dk_at dksX3_alike_3 11 rfl rfl)
theorem dX3_alike_84 : decode cX3_alike 84 = .ok (.istore 5, 2) := dk_54 5 (dk_at dksX3_alike_3 14 rfl rfl)
theorem dX3_alike_86 : decode cX3_alike 86 = .ok (.iconst 0, 1) := dk_3 (dk_at dksX3_alike_3 16 rfl rfl)
theorem dX3_alike_87 : decode cX3_alike 87 = .ok (.iload 5, 2) := dk_21 5 (dk_at dksX3_alike_3 17 rfl rfl)
theorem dX3_alike_89 : decode cX3_alike 89 = .ok (.iload 4, 2) := dk_21 4 (dk_at dksX3_alike_3 19 rfl rfl)
theorem dX3_alike_91 : decode cX3_alike 91 = .ok (.isub, 1) := dk_100 (dk_at dksX3_alike_3 21 rfl rfl)
theorem dX3_alike_92 : decode cX3_alike 92 = .ok (.iconst 1, 1) := dk_4 (dk_at dksX3_alike_3 22 rfl rfl)
theorem dX3_alike_93 : decode cX3_alike 93 = .ok (.iadd, 1) := dk_96 (dk_at dksX3_alike_3 23 rfl rfl)
theorem dX3_alike_94 : decode cX3_alike 94 = .ok (.invokestatic 246, 3) := dk_184 0 246 (dk_at dksX3_alike_4 0 rfl rfl)
theorem dX3_alike_97 : decode cX3_alike 97 = .ok (.istore 6, 2) := dk_54 6 (dk_at dksX3_alike_4 3 rfl rfl)
theorem dX3_alike_99 : decode cX3_alike 99 = .ok (.aload_n 0, 1) := dk_42 (dk_at dksX3_alike_4 5 rfl rfl)
theorem dX3_alike_100 : decode cX3_alike 100 = .ok (.getfield 60, 3) := dk_180 0 60 (dk_at dksX3_alike_4 6 rfl rfl)
theorem dX3_alike_103 : decode cX3_alike 103 = .ok (.iload_n 1, 1) := dk_27 (dk_at dksX3_alike_4 9 rfl rfl)
theorem dX3_alike_104 : decode cX3_alike 104 = .ok (.iaload, 1) := dk_46 (dk_at dksX3_alike_4 10 rfl rfl)
theorem dX3_alike_105 : decode cX3_alike 105 = .ok (.aload_n 0, 1) := dk_42 (dk_at dksX3_alike_4 11 rfl rfl)
theorem dX3_alike_106 : decode cX3_alike 106 = .ok (.getfield 57, 3) := dk_180 0 57 (dk_at dksX3_alike_4 12 rfl rfl)
theorem dX3_alike_109 : decode cX3_alike 109 = .ok (.iload_n 1, 1) := dk_27 (dk_at dksX3_alike_4 15 rfl rfl)
theorem dX3_alike_110 : decode cX3_alike 110 = .ok (.iaload, 1) := dk_46 (dk_at dksX3_alike_4 16 rfl rfl)
theorem dX3_alike_111 : decode cX3_alike 111 = .ok (.isub, 1) := dk_100 (dk_at dksX3_alike_4 17 rfl rfl)
theorem dX3_alike_112 : decode cX3_alike 112 = .ok (.iconst 1, 1) := dk_4 (dk_at dksX3_alike_4 18 rfl rfl)
theorem dX3_alike_113 : decode cX3_alike 113 = .ok (.iadd, 1) := dk_96 (dk_at dksX3_alike_4 19 rfl rfl)
theorem dX3_alike_114 : decode cX3_alike 114 = .ok (.istore 7, 2) := dk_54 7 (dk_at dksX3_alike_4 20 rfl rfl)
theorem dX3_alike_116 : decode cX3_alike 116 = .ok (.aload_n 0, 1) := dk_42 (dk_at dksX3_alike_4 22 rfl rfl)
theorem dX3_alike_117 : decode cX3_alike 117 = .ok (.getfield 60, 3) := dk_180 0 60 (dk_at dksX3_alike_5 0 rfl rfl)
theorem dX3_alike_120 : decode cX3_alike 120 = .ok (.iload_n 2, 1) := dk_28 (dk_at dksX3_alike_5 3 rfl rfl)
theorem dX3_alike_121 : decode cX3_alike 121 = .ok (.iaload, 1) := dk_46 (dk_at dksX3_alike_5 4 rfl rfl)
theorem dX3_alike_122 : decode cX3_alike 122 = .ok (.aload_n 0, 1) := dk_42 (dk_at dksX3_alike_5 5 rfl rfl)
theorem dX3_alike_123 : decode cX3_alike 123 = .ok (.getfield 57, 3) := dk_180 0 57 (dk_at dksX3_alike_5 6 rfl rfl)
theorem dX3_alike_126 : decode cX3_alike 126 = .ok (.iload_n 2, 1) := dk_28 (dk_at dksX3_alike_5 9 rfl rfl)
theorem dX3_alike_127 : decode cX3_alike 127 = .ok (.iaload, 1) := dk_46 (dk_at dksX3_alike_5 10 rfl rfl)
theorem dX3_alike_128 : decode cX3_alike 128 = .ok (.isub, 1) := dk_100 (dk_at dksX3_alike_5 11 rfl rfl)
theorem dX3_alike_129 : decode cX3_alike 129 = .ok (.iconst 1, 1) := dk_4 (dk_at dksX3_alike_5 12 rfl rfl)
theorem dX3_alike_130 : decode cX3_alike 130 = .ok (.iadd, 1) := dk_96 (dk_at dksX3_alike_5 13 rfl rfl)
theorem dX3_alike_131 : decode cX3_alike 131 = .ok (.istore 8, 2) := dk_54 8 (dk_at dksX3_alike_5 14 rfl rfl)
theorem dX3_alike_133 : decode cX3_alike 133 = .ok (.iconst 2, 1) := dk_5 (dk_at dksX3_alike_5 16 rfl rfl)
theorem dX3_alike_134 : decode cX3_alike 134 = .ok (.iload 6, 2) := dk_21 6 (dk_at dksX3_alike_5 17 rfl rfl)
theorem dX3_alike_136 : decode cX3_alike 136 = .ok (.imul, 1) := dk_104 (dk_at dksX3_alike_5 19 rfl rfl)
theorem dX3_alike_137 : decode cX3_alike 137 = .ok (.iload 7, 2) := dk_21 7 (dk_at dksX3_alike_5 20 rfl rfl)
theorem dX3_alike_139 : decode cX3_alike 139 = .ok (.iload 8, 2) := dk_21 8 (dk_at dksX3_alike_5 22 rfl rfl)
theorem dX3_alike_141 : decode cX3_alike 141 = .ok (.invokestatic 215, 3) := dk_184 0 215 (dk_at dksX3_alike_6 0 rfl rfl)
theorem dX3_alike_144 : decode cX3_alike 144 = .ok (.if_icmp .lt 16, 3) := dk_161 0 16 (dk_at dksX3_alike_6 3 rfl rfl)
theorem dX3_alike_147 : decode cX3_alike 147 = .ok (.aload_n 0, 1) := dk_42 (dk_at dksX3_alike_6 6 rfl rfl)
theorem dX3_alike_148 : decode cX3_alike 148 = .ok (.iload_n 1, 1) := dk_27 (dk_at dksX3_alike_6 7 rfl rfl)
theorem dX3_alike_149 : decode cX3_alike 149 = .ok (.iload_n 2, 1) := dk_28 (dk_at dksX3_alike_6 8 rfl rfl)
theorem dX3_alike_150 : decode cX3_alike 150 = .ok (.invokevirtual 279, 3) := dk_182 1 23 (dk_at dksX3_alike_6 9 rfl rfl)
theorem dX3_alike_153 : decode cX3_alike 153 = .ok (.ifCond .eq 7, 3) := dk_153 0 7 (dk_at dksX3_alike_6 12 rfl rfl)
theorem dX3_alike_156 : decode cX3_alike 156 = .ok (.iconst 1, 1) := dk_4 (dk_at dksX3_alike_6 15 rfl rfl)
theorem dX3_alike_157 : decode cX3_alike 157 = .ok (.goto 4, 3) := dk_167 0 4 (dk_at dksX3_alike_6 16 rfl rfl)
theorem dX3_alike_160 : decode cX3_alike 160 = .ok (.iconst 0, 1) := dk_3 (dk_at dksX3_alike_6 19 rfl rfl)
theorem dX3_alike_161 : decode cX3_alike 161 = .ok (.ireturn, 1) := dk_172 (dk_at dksX3_alike_6 20 rfl rfl)
abbrev cX3_haveLikeTexts : ByteArray := prog_16_method_72_code
def yX3_haveLikeTexts : MethodName := ⟨RX3, "haveLikeTexts", "(II)Z"⟩
def dkwX3_haveLikeTexts_2 : List UInt8 := [172]
abbrev dktX3_haveLikeTexts_2 : List UInt8 := dkwX3_haveLikeTexts_2 ++ []
def dkwX3_haveLikeTexts_1 : List UInt8 := [100, 54, 4, 29, 16, 100, 104, 42, 180, 0, 7, 6, 46, 21, 4, 104, 161, 0, 7, 4, 167, 0, 4, 3]
abbrev dktX3_haveLikeTexts_1 : List UInt8 := dkwX3_haveLikeTexts_1 ++ dktX3_haveLikeTexts_2
def dkwX3_haveLikeTexts_0 : List UInt8 := [42, 27, 28, 4, 182, 1, 19, 62, 42, 27, 28, 3, 182, 1, 19, 42, 28, 27, 3, 182, 1, 19, 96, 29]
abbrev dktX3_haveLikeTexts_0 : List UInt8 := dkwX3_haveLikeTexts_0 ++ dktX3_haveLikeTexts_1
theorem dksX3_haveLikeTexts_0 : cX3_haveLikeTexts.data.toList.drop 0 = dktX3_haveLikeTexts_0 := by decide +kernel
theorem dksX3_haveLikeTexts_1 : cX3_haveLikeTexts.data.toList.drop 24 = dktX3_haveLikeTexts_1 := dk_seg dksX3_haveLikeTexts_0 24 rfl rfl
theorem dksX3_haveLikeTexts_2 : cX3_haveLikeTexts.data.toList.drop 48 = dktX3_haveLikeTexts_2 := dk_seg dksX3_haveLikeTexts_1 24 rfl rfl
theorem dX3_haveLikeTexts_0 : decode cX3_haveLikeTexts 0 = .ok (.aload_n 0, 1) := dk_42 (dk_at dksX3_haveLikeTexts_0 0 rfl rfl)
theorem dX3_haveLikeTexts_1 : decode cX3_haveLikeTexts 1 = .ok (.iload_n 1, 1) := dk_27 (dk_at dksX3_haveLikeTexts_0 1 rfl rfl)
theorem dX3_haveLikeTexts_2 : decode cX3_haveLikeTexts 2 = .ok (.iload_n 2, 1) := dk_28 (dk_at dksX3_haveLikeTexts_0 2 rfl rfl)
theorem dX3_haveLikeTexts_3 : decode cX3_haveLikeTexts 3 = .ok (.iconst 1, 1) := dk_4 (dk_at dksX3_haveLikeTexts_0 3 rfl rfl)
theorem dX3_haveLikeTexts_4 : decode cX3_haveLikeTexts 4 = .ok (.invokevirtual 275, 3) := dk_182 1 19 (dk_at dksX3_haveLikeTexts_0 4 rfl rfl)
theorem dX3_haveLikeTexts_7 : decode cX3_haveLikeTexts 7 = .ok (.istore_n 3, 1) := dk_62 (dk_at dksX3_haveLikeTexts_0 7 rfl rfl)
theorem dX3_haveLikeTexts_8 : decode cX3_haveLikeTexts 8 = .ok (.aload_n 0, 1) := dk_42 (dk_at dksX3_haveLikeTexts_0 8 rfl rfl)
theorem dX3_haveLikeTexts_9 : decode cX3_haveLikeTexts 9 = .ok (.iload_n 1, 1) := dk_27 (dk_at dksX3_haveLikeTexts_0 9 rfl rfl)
theorem dX3_haveLikeTexts_10 : decode cX3_haveLikeTexts 10 = .ok (.iload_n 2, 1) := dk_28 (dk_at dksX3_haveLikeTexts_0 10 rfl rfl)
theorem dX3_haveLikeTexts_11 : decode cX3_haveLikeTexts 11 = .ok (.iconst 0, 1) := dk_3 (dk_at dksX3_haveLikeTexts_0 11 rfl rfl)
theorem dX3_haveLikeTexts_12 : decode cX3_haveLikeTexts 12 = .ok (.invokevirtual 275, 3) := dk_182 1 19 (dk_at dksX3_haveLikeTexts_0 12 rfl rfl)
theorem dX3_haveLikeTexts_15 : decode cX3_haveLikeTexts 15 = .ok (.aload_n 0, 1) := dk_42 (dk_at dksX3_haveLikeTexts_0 15 rfl rfl)
theorem dX3_haveLikeTexts_16 : decode cX3_haveLikeTexts 16 = .ok (.iload_n 2, 1) := dk_28 (dk_at dksX3_haveLikeTexts_0 16 rfl rfl)
theorem dX3_haveLikeTexts_17 : decode cX3_haveLikeTexts 17 = .ok (.iload_n 1, 1) := dk_27 (dk_at dksX3_haveLikeTexts_0 17 rfl rfl)
theorem dX3_haveLikeTexts_18 : decode cX3_haveLikeTexts 18 = .ok (.iconst 0, 1) := dk_3 (dk_at dksX3_haveLikeTexts_0 18 rfl rfl)
theorem dX3_haveLikeTexts_19 : decode cX3_haveLikeTexts 19 = .ok (.invokevirtual 275, 3) := dk_182 1 19 (dk_at dksX3_haveLikeTexts_0 19 rfl rfl)
theorem dX3_haveLikeTexts_22 : decode cX3_haveLikeTexts 22 = .ok (.iadd, 1) := dk_96 (dk_at dksX3_haveLikeTexts_0 22 rfl rfl)
theorem dX3_haveLikeTexts_23 : decode cX3_haveLikeTexts 23 = .ok (.iload_n 3, 1) := dk_29 (dk_at dksX3_haveLikeTexts_0 23 rfl rfl)
theorem dX3_haveLikeTexts_24 : decode cX3_haveLikeTexts 24 = .ok (.isub, 1) := dk_100 (dk_at dksX3_haveLikeTexts_1 0 rfl rfl)
theorem dX3_haveLikeTexts_25 : decode cX3_haveLikeTexts 25 = .ok (.istore 4, 2) := dk_54 4 (dk_at dksX3_haveLikeTexts_1 1 rfl rfl)
theorem dX3_haveLikeTexts_27 : decode cX3_haveLikeTexts 27 = .ok (.iload_n 3, 1) := dk_29 (dk_at dksX3_haveLikeTexts_1 3 rfl rfl)
theorem dX3_haveLikeTexts_28 : decode cX3_haveLikeTexts 28 = .ok (.bipush 100, 2) := dk_16 100 (dk_at dksX3_haveLikeTexts_1 4 rfl rfl)
theorem dX3_haveLikeTexts_30 : decode cX3_haveLikeTexts 30 = .ok (.imul, 1) := dk_104 (dk_at dksX3_haveLikeTexts_1 6 rfl rfl)
theorem dX3_haveLikeTexts_31 : decode cX3_haveLikeTexts 31 = .ok (.aload_n 0, 1) := dk_42 (dk_at dksX3_haveLikeTexts_1 7 rfl rfl)
theorem dX3_haveLikeTexts_32 : decode cX3_haveLikeTexts 32 = .ok (.getfield 7, 3) := dk_180 0 7 (dk_at dksX3_haveLikeTexts_1 8 rfl rfl)
theorem dX3_haveLikeTexts_35 : decode cX3_haveLikeTexts 35 = .ok (.iconst 3, 1) := dk_6 (dk_at dksX3_haveLikeTexts_1 11 rfl rfl)
theorem dX3_haveLikeTexts_36 : decode cX3_haveLikeTexts 36 = .ok (.iaload, 1) := dk_46 (dk_at dksX3_haveLikeTexts_1 12 rfl rfl)
theorem dX3_haveLikeTexts_37 : decode cX3_haveLikeTexts 37 = .ok (.iload 4, 2) := dk_21 4 (dk_at dksX3_haveLikeTexts_1 13 rfl rfl)
theorem dX3_haveLikeTexts_39 : decode cX3_haveLikeTexts 39 = .ok (.imul, 1) := dk_104 (dk_at dksX3_haveLikeTexts_1 15 rfl rfl)
theorem dX3_haveLikeTexts_40 : decode cX3_haveLikeTexts 40 = .ok (.if_icmp .lt 7, 3) := dk_161 0 7 (dk_at dksX3_haveLikeTexts_1 16 rfl rfl)
theorem dX3_haveLikeTexts_43 : decode cX3_haveLikeTexts 43 = .ok (.iconst 1, 1) := dk_4 (dk_at dksX3_haveLikeTexts_1 19 rfl rfl)
theorem dX3_haveLikeTexts_44 : decode cX3_haveLikeTexts 44 = .ok (.goto 4, 3) := dk_167 0 4 (dk_at dksX3_haveLikeTexts_1 20 rfl rfl)
theorem dX3_haveLikeTexts_47 : decode cX3_haveLikeTexts 47 = .ok (.iconst 0, 1) := dk_3 (dk_at dksX3_haveLikeTexts_1 23 rfl rfl)
theorem dX3_haveLikeTexts_48 : decode cX3_haveLikeTexts 48 = .ok (.ireturn, 1) := dk_172 (dk_at dksX3_haveLikeTexts_2 0 rfl rfl)
abbrev cX3_differentWords : ByteArray := prog_16_method_71_code
def yX3_differentWords : MethodName := ⟨RX3, "differentWords", "(IIZ)I"⟩
def dkwX3_differentWords_3 : List UInt8 := [167, 255, 191, 21, 4, 172]
abbrev dktX3_differentWords_3 : List UInt8 := dkwX3_differentWords_3 ++ []
def dkwX3_differentWords_2 : List UInt8 := [167, 0, 4, 3, 54, 6, 21, 4, 21, 6, 153, 0, 7, 4, 167, 0, 4, 3, 96, 54, 4, 132, 5, 1]
abbrev dktX3_differentWords_2 : List UInt8 := dkwX3_differentWords_2 ++ dktX3_differentWords_3
def dkwX3_differentWords_1 : List UInt8 := [154, 0, 26, 29, 153, 0, 18, 42, 28, 42, 27, 21, 5, 182, 1, 9, 182, 1, 15, 153, 0, 7, 4]
abbrev dktX3_differentWords_1 : List UInt8 := dkwX3_differentWords_1 ++ dktX3_differentWords_2
def dkwX3_differentWords_0 : List UInt8 := [3, 54, 4, 3, 54, 5, 21, 5, 42, 27, 8, 182, 0, 205, 162, 0, 60, 42, 27, 21, 5, 182, 1, 12]
abbrev dktX3_differentWords_0 : List UInt8 := dkwX3_differentWords_0 ++ dktX3_differentWords_1
theorem dksX3_differentWords_0 : cX3_differentWords.data.toList.drop 0 = dktX3_differentWords_0 := by decide +kernel
theorem dksX3_differentWords_1 : cX3_differentWords.data.toList.drop 24 = dktX3_differentWords_1 := dk_seg dksX3_differentWords_0 24 rfl rfl
theorem dksX3_differentWords_2 : cX3_differentWords.data.toList.drop 47 = dktX3_differentWords_2 := dk_seg dksX3_differentWords_1 23 rfl rfl
theorem dksX3_differentWords_3 : cX3_differentWords.data.toList.drop 71 = dktX3_differentWords_3 := dk_seg dksX3_differentWords_2 24 rfl rfl
theorem dX3_differentWords_0 : decode cX3_differentWords 0 = .ok (.iconst 0, 1) := dk_3 (dk_at dksX3_differentWords_0 0 rfl rfl)
theorem dX3_differentWords_1 : decode cX3_differentWords 1 = .ok (.istore 4, 2) := dk_54 4 (dk_at dksX3_differentWords_0 1 rfl rfl)
theorem dX3_differentWords_3 : decode cX3_differentWords 3 = .ok (.iconst 0, 1) := dk_3 (dk_at dksX3_differentWords_0 3 rfl rfl)
theorem dX3_differentWords_4 : decode cX3_differentWords 4 = .ok (.istore 5, 2) := dk_54 5 (dk_at dksX3_differentWords_0 4 rfl rfl)
theorem dX3_differentWords_6 : decode cX3_differentWords 6 = .ok (.iload 5, 2) := dk_21 5 (dk_at dksX3_differentWords_0 6 rfl rfl)
theorem dX3_differentWords_8 : decode cX3_differentWords 8 = .ok (.aload_n 0, 1) := dk_42 (dk_at dksX3_differentWords_0 8 rfl rfl)
theorem dX3_differentWords_9 : decode cX3_differentWords 9 = .ok (.iload_n 1, 1) := dk_27 (dk_at dksX3_differentWords_0 9 rfl rfl)
theorem dX3_differentWords_10 : decode cX3_differentWords 10 = .ok (.iconst 5, 1) := dk_8 (dk_at dksX3_differentWords_0 10 rfl rfl)
theorem dX3_differentWords_11 : decode cX3_differentWords 11 = .ok (.invokevirtual 205, 3) := dk_182 0 205 (dk_at dksX3_differentWords_0 11 rfl rfl)
theorem dX3_differentWords_14 : decode cX3_differentWords 14 = .ok (.if_icmp .ge 60, 3) := dk_162 0 60 (dk_at dksX3_differentWords_0 14 rfl rfl)
theorem dX3_differentWords_17 : decode cX3_differentWords 17 = .ok (.aload_n 0, 1) := dk_42 (dk_at dksX3_differentWords_0 17 rfl rfl)
theorem dX3_differentWords_18 : decode cX3_differentWords 18 = .ok (.iload_n 1, 1) := dk_27 (dk_at dksX3_differentWords_0 18 rfl rfl)
theorem dX3_differentWords_19 : decode cX3_differentWords 19 = .ok (.iload 5, 2) := dk_21 5 (dk_at dksX3_differentWords_0 19 rfl rfl)
theorem dX3_differentWords_21 : decode cX3_differentWords 21 = .ok (.invokevirtual 268, 3) := dk_182 1 12 (dk_at dksX3_differentWords_0 21 rfl rfl)
theorem dX3_differentWords_24 : decode cX3_differentWords 24 = .ok (.ifCond .ne 26, 3) := dk_154 0 26 (dk_at dksX3_differentWords_1 0 rfl rfl)
theorem dX3_differentWords_27 : decode cX3_differentWords 27 = .ok (.iload_n 3, 1) := dk_29 (dk_at dksX3_differentWords_1 3 rfl rfl)
theorem dX3_differentWords_28 : decode cX3_differentWords 28 = .ok (.ifCond .eq 18, 3) := dk_153 0 18 (dk_at dksX3_differentWords_1 4 rfl rfl)
theorem dX3_differentWords_31 : decode cX3_differentWords 31 = .ok (.aload_n 0, 1) := dk_42 (dk_at dksX3_differentWords_1 7 rfl rfl)
theorem dX3_differentWords_32 : decode cX3_differentWords 32 = .ok (.iload_n 2, 1) := dk_28 (dk_at dksX3_differentWords_1 8 rfl rfl)
theorem dX3_differentWords_33 : decode cX3_differentWords 33 = .ok (.aload_n 0, 1) := dk_42 (dk_at dksX3_differentWords_1 9 rfl rfl)
theorem dX3_differentWords_34 : decode cX3_differentWords 34 = .ok (.iload_n 1, 1) := dk_27 (dk_at dksX3_differentWords_1 10 rfl rfl)
theorem dX3_differentWords_35 : decode cX3_differentWords 35 = .ok (.iload 5, 2) := dk_21 5 (dk_at dksX3_differentWords_1 11 rfl rfl)
theorem dX3_differentWords_37 : decode cX3_differentWords 37 = .ok (.invokevirtual 265, 3) := dk_182 1 9 (dk_at dksX3_differentWords_1 13 rfl rfl)
theorem dX3_differentWords_40 : decode cX3_differentWords 40 = .ok (.invokevirtual 271, 3) := dk_182 1 15 (dk_at dksX3_differentWords_1 16 rfl rfl)
theorem dX3_differentWords_43 : decode cX3_differentWords 43 = .ok (.ifCond .eq 7, 3) := dk_153 0 7 (dk_at dksX3_differentWords_1 19 rfl rfl)
theorem dX3_differentWords_46 : decode cX3_differentWords 46 = .ok (.iconst 1, 1) := dk_4 (dk_at dksX3_differentWords_1 22 rfl rfl)
theorem dX3_differentWords_47 : decode cX3_differentWords 47 = .ok (.goto 4, 3) := dk_167 0 4 (dk_at dksX3_differentWords_2 0 rfl rfl)
theorem dX3_differentWords_50 : decode cX3_differentWords 50 = .ok (.iconst 0, 1) := dk_3 (dk_at dksX3_differentWords_2 3 rfl rfl)
theorem dX3_differentWords_51 : decode cX3_differentWords 51 = .ok (.istore 6, 2) := dk_54 6 (dk_at dksX3_differentWords_2 4 rfl rfl)
theorem dX3_differentWords_53 : decode cX3_differentWords 53 = .ok (.iload 4, 2) := dk_21 4 (dk_at dksX3_differentWords_2 6 rfl rfl)
theorem dX3_differentWords_55 : decode cX3_differentWords 55 = .ok (.iload 6, 2) := dk_21 6 (dk_at dksX3_differentWords_2 8 rfl rfl)
theorem dX3_differentWords_57 : decode cX3_differentWords 57 = .ok (.ifCond .eq 7, 3) := dk_153 0 7 (dk_at dksX3_differentWords_2 10 rfl rfl)
theorem dX3_differentWords_60 : decode cX3_differentWords 60 = .ok (.iconst 1, 1) := dk_4 (dk_at dksX3_differentWords_2 13 rfl rfl)
theorem dX3_differentWords_61 : decode cX3_differentWords 61 = .ok (.goto 4, 3) := dk_167 0 4 (dk_at dksX3_differentWords_2 14 rfl rfl)
theorem dX3_differentWords_64 : decode cX3_differentWords 64 = .ok (.iconst 0, 1) := dk_3 (dk_at dksX3_differentWords_2 17 rfl rfl)
theorem dX3_differentWords_65 : decode cX3_differentWords 65 = .ok (.iadd, 1) := dk_96 (dk_at dksX3_differentWords_2 18 rfl rfl)
theorem dX3_differentWords_66 : decode cX3_differentWords 66 = .ok (.istore 4, 2) := dk_54 4 (dk_at dksX3_differentWords_2 19 rfl rfl)
theorem dX3_differentWords_68 : decode cX3_differentWords 68 = .ok (.iinc 5 1, 3) := dk_132 5 1 (dk_at dksX3_differentWords_2 21 rfl rfl)
theorem dX3_differentWords_71 : decode cX3_differentWords 71 = .ok (.goto (-65), 3) := dk_167 255 191 (dk_at dksX3_differentWords_3 0 rfl rfl)
theorem dX3_differentWords_74 : decode cX3_differentWords 74 = .ok (.iload 4, 2) := dk_21 4 (dk_at dksX3_differentWords_3 3 rfl rfl)
theorem dX3_differentWords_76 : decode cX3_differentWords 76 = .ok (.ireturn, 1) := dk_172 (dk_at dksX3_differentWords_3 5 rfl rfl)
abbrev cX3_isRepeated : ByteArray := prog_16_method_70_code
def yX3_isRepeated : MethodName := ⟨RX3, "isRepeated", "(II)Z"⟩
def dkwX3_isRepeated_1 : List UInt8 := [28, 182, 1, 9, 148, 154, 0, 7, 4, 167, 0, 4, 3, 62, 132, 4, 1, 167, 255, 220, 29, 172]
abbrev dktX3_isRepeated_1 : List UInt8 := dkwX3_isRepeated_1 ++ []
def dkwX3_isRepeated_0 : List UInt8 := [3, 62, 3, 54, 4, 21, 4, 28, 162, 0, 36, 29, 154, 0, 20, 42, 27, 21, 4, 182, 1, 9, 42, 27]
abbrev dktX3_isRepeated_0 : List UInt8 := dkwX3_isRepeated_0 ++ dktX3_isRepeated_1
theorem dksX3_isRepeated_0 : cX3_isRepeated.data.toList.drop 0 = dktX3_isRepeated_0 := by decide +kernel
theorem dksX3_isRepeated_1 : cX3_isRepeated.data.toList.drop 24 = dktX3_isRepeated_1 := dk_seg dksX3_isRepeated_0 24 rfl rfl
theorem dX3_isRepeated_0 : decode cX3_isRepeated 0 = .ok (.iconst 0, 1) := dk_3 (dk_at dksX3_isRepeated_0 0 rfl rfl)
theorem dX3_isRepeated_1 : decode cX3_isRepeated 1 = .ok (.istore_n 3, 1) := dk_62 (dk_at dksX3_isRepeated_0 1 rfl rfl)
theorem dX3_isRepeated_2 : decode cX3_isRepeated 2 = .ok (.iconst 0, 1) := dk_3 (dk_at dksX3_isRepeated_0 2 rfl rfl)
theorem dX3_isRepeated_3 : decode cX3_isRepeated 3 = .ok (.istore 4, 2) := dk_54 4 (dk_at dksX3_isRepeated_0 3 rfl rfl)
theorem dX3_isRepeated_5 : decode cX3_isRepeated 5 = .ok (.iload 4, 2) := dk_21 4 (dk_at dksX3_isRepeated_0 5 rfl rfl)
theorem dX3_isRepeated_7 : decode cX3_isRepeated 7 = .ok (.iload_n 2, 1) := dk_28 (dk_at dksX3_isRepeated_0 7 rfl rfl)
theorem dX3_isRepeated_8 : decode cX3_isRepeated 8 = .ok (.if_icmp .ge 36, 3) := dk_162 0 36 (dk_at dksX3_isRepeated_0 8 rfl rfl)
theorem dX3_isRepeated_11 : decode cX3_isRepeated 11 = .ok (.iload_n 3, 1) := dk_29 (dk_at dksX3_isRepeated_0 11 rfl rfl)
theorem dX3_isRepeated_12 : decode cX3_isRepeated 12 = .ok (.ifCond .ne 20, 3) := dk_154 0 20 (dk_at dksX3_isRepeated_0 12 rfl rfl)
theorem dX3_isRepeated_15 : decode cX3_isRepeated 15 = .ok (.aload_n 0, 1) := dk_42 (dk_at dksX3_isRepeated_0 15 rfl rfl)
theorem dX3_isRepeated_16 : decode cX3_isRepeated 16 = .ok (.iload_n 1, 1) := dk_27 (dk_at dksX3_isRepeated_0 16 rfl rfl)
theorem dX3_isRepeated_17 : decode cX3_isRepeated 17 = .ok (.iload 4, 2) := dk_21 4 (dk_at dksX3_isRepeated_0 17 rfl rfl)
theorem dX3_isRepeated_19 : decode cX3_isRepeated 19 = .ok (.invokevirtual 265, 3) := dk_182 1 9 (dk_at dksX3_isRepeated_0 19 rfl rfl)
theorem dX3_isRepeated_22 : decode cX3_isRepeated 22 = .ok (.aload_n 0, 1) := dk_42 (dk_at dksX3_isRepeated_0 22 rfl rfl)
theorem dX3_isRepeated_23 : decode cX3_isRepeated 23 = .ok (.iload_n 1, 1) := dk_27 (dk_at dksX3_isRepeated_0 23 rfl rfl)
theorem dX3_isRepeated_24 : decode cX3_isRepeated 24 = .ok (.iload_n 2, 1) := dk_28 (dk_at dksX3_isRepeated_1 0 rfl rfl)
theorem dX3_isRepeated_25 : decode cX3_isRepeated 25 = .ok (.invokevirtual 265, 3) := dk_182 1 9 (dk_at dksX3_isRepeated_1 1 rfl rfl)
theorem dX3_isRepeated_28 : decode cX3_isRepeated 28 = .ok (.lcmp, 1) := dk_148 (dk_at dksX3_isRepeated_1 4 rfl rfl)
theorem dX3_isRepeated_29 : decode cX3_isRepeated 29 = .ok (.ifCond .ne 7, 3) := dk_154 0 7 (dk_at dksX3_isRepeated_1 5 rfl rfl)
theorem dX3_isRepeated_32 : decode cX3_isRepeated 32 = .ok (.iconst 1, 1) := dk_4 (dk_at dksX3_isRepeated_1 8 rfl rfl)
theorem dX3_isRepeated_33 : decode cX3_isRepeated 33 = .ok (.goto 4, 3) := dk_167 0 4 (dk_at dksX3_isRepeated_1 9 rfl rfl)
theorem dX3_isRepeated_36 : decode cX3_isRepeated 36 = .ok (.iconst 0, 1) := dk_3 (dk_at dksX3_isRepeated_1 12 rfl rfl)
theorem dX3_isRepeated_37 : decode cX3_isRepeated 37 = .ok (.istore_n 3, 1) := dk_62 (dk_at dksX3_isRepeated_1 13 rfl rfl)
theorem dX3_isRepeated_38 : decode cX3_isRepeated 38 = .ok (.iinc 4 1, 3) := dk_132 4 1 (dk_at dksX3_isRepeated_1 14 rfl rfl)
theorem dX3_isRepeated_41 : decode cX3_isRepeated 41 = .ok (.goto (-36), 3) := dk_167 255 220 (dk_at dksX3_isRepeated_1 17 rfl rfl)
theorem dX3_isRepeated_44 : decode cX3_isRepeated 44 = .ok (.iload_n 3, 1) := dk_29 (dk_at dksX3_isRepeated_1 20 rfl rfl)
theorem dX3_isRepeated_45 : decode cX3_isRepeated 45 = .ok (.ireturn, 1) := dk_172 (dk_at dksX3_isRepeated_1 21 rfl rfl)
abbrev cX3_saidBy : ByteArray := prog_16_method_20_code
def yX3_saidBy : MethodName := ⟨RX3, "saidBy", "(II)J"⟩
def dkwX3_saidBy_0 : List UInt8 := [42, 180, 0, 19, 17, 1, 110, 16, 6, 27, 104, 96, 28, 96, 47, 173]
abbrev dktX3_saidBy_0 : List UInt8 := dkwX3_saidBy_0 ++ []
theorem dksX3_saidBy_0 : cX3_saidBy.data.toList.drop 0 = dktX3_saidBy_0 := by decide +kernel
theorem dX3_saidBy_0 : decode cX3_saidBy 0 = .ok (.aload_n 0, 1) := dk_42 (dk_at dksX3_saidBy_0 0 rfl rfl)
theorem dX3_saidBy_1 : decode cX3_saidBy 1 = .ok (.getfield 19, 3) := dk_180 0 19 (dk_at dksX3_saidBy_0 1 rfl rfl)
theorem dX3_saidBy_4 : decode cX3_saidBy 4 = .ok (.sipush 366, 3) := dk_17 1 110 (dk_at dksX3_saidBy_0 4 rfl rfl)
theorem dX3_saidBy_7 : decode cX3_saidBy 7 = .ok (.bipush 6, 2) := dk_16 6 (dk_at dksX3_saidBy_0 7 rfl rfl)
theorem dX3_saidBy_9 : decode cX3_saidBy 9 = .ok (.iload_n 1, 1) := dk_27 (dk_at dksX3_saidBy_0 9 rfl rfl)
theorem dX3_saidBy_10 : decode cX3_saidBy 10 = .ok (.imul, 1) := dk_104 (dk_at dksX3_saidBy_0 10 rfl rfl)
theorem dX3_saidBy_11 : decode cX3_saidBy 11 = .ok (.iadd, 1) := dk_96 (dk_at dksX3_saidBy_0 11 rfl rfl)
theorem dX3_saidBy_12 : decode cX3_saidBy 12 = .ok (.iload_n 2, 1) := dk_28 (dk_at dksX3_saidBy_0 12 rfl rfl)
theorem dX3_saidBy_13 : decode cX3_saidBy 13 = .ok (.iadd, 1) := dk_96 (dk_at dksX3_saidBy_0 13 rfl rfl)
theorem dX3_saidBy_14 : decode cX3_saidBy 14 = .ok (.laload, 1) := dk_47 (dk_at dksX3_saidBy_0 14 rfl rfl)
theorem dX3_saidBy_15 : decode cX3_saidBy 15 = .ok (.lreturn, 1) := dk_173 (dk_at dksX3_saidBy_0 15 rfl rfl)
abbrev cX3_says : ByteArray := prog_16_method_69_code
def yX3_says : MethodName := ⟨RX3, "says", "(IJ)Z"⟩
def dkwX3_says_2 : List UInt8 := [21, 4, 172]
abbrev dktX3_says_2 : List UInt8 := dkwX3_says_2 ++ []
def dkwX3_says_1 : List UInt8 := [21, 5, 182, 1, 9, 32, 148, 154, 0, 7, 4, 167, 0, 4, 3, 54, 4, 132, 5, 1, 167, 255, 218]
abbrev dktX3_says_1 : List UInt8 := dkwX3_says_1 ++ dktX3_says_2
def dkwX3_says_0 : List UInt8 := [3, 54, 4, 3, 54, 5, 21, 5, 42, 27, 8, 182, 0, 205, 162, 0, 33, 21, 4, 154, 0, 15, 42, 27]
abbrev dktX3_says_0 : List UInt8 := dkwX3_says_0 ++ dktX3_says_1
theorem dksX3_says_0 : cX3_says.data.toList.drop 0 = dktX3_says_0 := by decide +kernel
theorem dksX3_says_1 : cX3_says.data.toList.drop 24 = dktX3_says_1 := dk_seg dksX3_says_0 24 rfl rfl
theorem dksX3_says_2 : cX3_says.data.toList.drop 47 = dktX3_says_2 := dk_seg dksX3_says_1 23 rfl rfl
theorem dX3_says_0 : decode cX3_says 0 = .ok (.iconst 0, 1) := dk_3 (dk_at dksX3_says_0 0 rfl rfl)
theorem dX3_says_1 : decode cX3_says 1 = .ok (.istore 4, 2) := dk_54 4 (dk_at dksX3_says_0 1 rfl rfl)
theorem dX3_says_3 : decode cX3_says 3 = .ok (.iconst 0, 1) := dk_3 (dk_at dksX3_says_0 3 rfl rfl)
theorem dX3_says_4 : decode cX3_says 4 = .ok (.istore 5, 2) := dk_54 5 (dk_at dksX3_says_0 4 rfl rfl)
theorem dX3_says_6 : decode cX3_says 6 = .ok (.iload 5, 2) := dk_21 5 (dk_at dksX3_says_0 6 rfl rfl)
theorem dX3_says_8 : decode cX3_says 8 = .ok (.aload_n 0, 1) := dk_42 (dk_at dksX3_says_0 8 rfl rfl)
theorem dX3_says_9 : decode cX3_says 9 = .ok (.iload_n 1, 1) := dk_27 (dk_at dksX3_says_0 9 rfl rfl)
theorem dX3_says_10 : decode cX3_says 10 = .ok (.iconst 5, 1) := dk_8 (dk_at dksX3_says_0 10 rfl rfl)
theorem dX3_says_11 : decode cX3_says 11 = .ok (.invokevirtual 205, 3) := dk_182 0 205 (dk_at dksX3_says_0 11 rfl rfl)
theorem dX3_says_14 : decode cX3_says 14 = .ok (.if_icmp .ge 33, 3) := dk_162 0 33 (dk_at dksX3_says_0 14 rfl rfl)
theorem dX3_says_17 : decode cX3_says 17 = .ok (.iload 4, 2) := dk_21 4 (dk_at dksX3_says_0 17 rfl rfl)
theorem dX3_says_19 : decode cX3_says 19 = .ok (.ifCond .ne 15, 3) := dk_154 0 15 (dk_at dksX3_says_0 19 rfl rfl)
theorem dX3_says_22 : decode cX3_says 22 = .ok (.aload_n 0, 1) := dk_42 (dk_at dksX3_says_0 22 rfl rfl)
theorem dX3_says_23 : decode cX3_says 23 = .ok (.iload_n 1, 1) := dk_27 (dk_at dksX3_says_0 23 rfl rfl)
theorem dX3_says_24 : decode cX3_says 24 = .ok (.iload 5, 2) := dk_21 5 (dk_at dksX3_says_1 0 rfl rfl)
theorem dX3_says_26 : decode cX3_says 26 = .ok (.invokevirtual 265, 3) := dk_182 1 9 (dk_at dksX3_says_1 2 rfl rfl)
theorem dX3_says_29 : decode cX3_says 29 = .ok (.lload_n 2, 1) := dk_32 (dk_at dksX3_says_1 5 rfl rfl)
theorem dX3_says_30 : decode cX3_says 30 = .ok (.lcmp, 1) := dk_148 (dk_at dksX3_says_1 6 rfl rfl)
theorem dX3_says_31 : decode cX3_says 31 = .ok (.ifCond .ne 7, 3) := dk_154 0 7 (dk_at dksX3_says_1 7 rfl rfl)
theorem dX3_says_34 : decode cX3_says 34 = .ok (.iconst 1, 1) := dk_4 (dk_at dksX3_says_1 10 rfl rfl)
theorem dX3_says_35 : decode cX3_says 35 = .ok (.goto 4, 3) := dk_167 0 4 (dk_at dksX3_says_1 11 rfl rfl)
theorem dX3_says_38 : decode cX3_says 38 = .ok (.iconst 0, 1) := dk_3 (dk_at dksX3_says_1 14 rfl rfl)
theorem dX3_says_39 : decode cX3_says 39 = .ok (.istore 4, 2) := dk_54 4 (dk_at dksX3_says_1 15 rfl rfl)
theorem dX3_says_41 : decode cX3_says 41 = .ok (.iinc 5 1, 3) := dk_132 5 1 (dk_at dksX3_says_1 17 rfl rfl)
theorem dX3_says_44 : decode cX3_says 44 = .ok (.goto (-38), 3) := dk_167 255 218 (dk_at dksX3_says_1 20 rfl rfl)
theorem dX3_says_47 : decode cX3_says 47 = .ok (.iload 4, 2) := dk_21 4 (dk_at dksX3_says_2 0 rfl rfl)
theorem dX3_says_49 : decode cX3_says 49 = .ok (.ireturn, 1) := dk_172 (dk_at dksX3_says_2 2 rfl rfl)
abbrev cX3_join : ByteArray := prog_16_method_76_code
def yX3_join : MethodName := ⟨RX3, "join", "(I)V"⟩
def dkwX3_join_6 : List UInt8 := [182, 0, 205, 164, 0, 10, 42, 180, 0, 75, 28, 27, 79, 177]
abbrev dktX3_join_6 : List UInt8 := dkwX3_join_6 ++ []
def dkwX3_join_5 : List UInt8 := [27, 46, 184, 0, 246, 79, 29, 154, 0, 23, 42, 27, 8, 182, 0, 205, 42, 42, 180, 0, 75, 28, 46, 8]
abbrev dktX3_join_5 : List UInt8 := dkwX3_join_5 ++ dktX3_join_6
def dkwX3_join_4 : List UInt8 := [180, 0, 57, 27, 46, 184, 0, 215, 79, 42, 180, 0, 72, 28, 42, 180, 0, 72, 28, 46, 42, 180, 0, 60]
abbrev dktX3_join_4 : List UInt8 := dkwX3_join_4 ++ dktX3_join_5
def dkwX3_join_3 : List UInt8 := [180, 0, 69, 28, 29, 153, 0, 12, 42, 180, 0, 57, 27, 46, 167, 0, 18, 42, 180, 0, 69, 28, 46, 42]
abbrev dktX3_join_3 : List UInt8 := dkwX3_join_3 ++ dktX3_join_4
def dkwX3_join_2 : List UInt8 := [92, 46, 4, 96, 79, 42, 180, 0, 84, 28, 92, 46, 4, 42, 27, 3, 182, 0, 205, 120, 128, 79, 42]
abbrev dktX3_join_2 : List UInt8 := dkwX3_join_2 ++ dktX3_join_3
def dkwX3_join_1 : List UInt8 := [180, 0, 78, 28, 29, 153, 0, 7, 27, 167, 0, 9, 42, 180, 0, 78, 28, 46, 79, 42, 180, 0, 81, 28]
abbrev dktX3_join_1 : List UInt8 := dkwX3_join_1 ++ dktX3_join_2
def dkwX3_join_0 : List UInt8 := [42, 180, 0, 66, 27, 46, 61, 42, 180, 0, 78, 28, 46, 2, 160, 0, 7, 4, 167, 0, 4, 3, 62, 42]
abbrev dktX3_join_0 : List UInt8 := dkwX3_join_0 ++ dktX3_join_1
theorem dksX3_join_0 : cX3_join.data.toList.drop 0 = dktX3_join_0 := by decide +kernel
theorem dksX3_join_1 : cX3_join.data.toList.drop 24 = dktX3_join_1 := dk_seg dksX3_join_0 24 rfl rfl
theorem dksX3_join_2 : cX3_join.data.toList.drop 48 = dktX3_join_2 := dk_seg dksX3_join_1 24 rfl rfl
theorem dksX3_join_3 : cX3_join.data.toList.drop 71 = dktX3_join_3 := dk_seg dksX3_join_2 23 rfl rfl
theorem dksX3_join_4 : cX3_join.data.toList.drop 95 = dktX3_join_4 := dk_seg dksX3_join_3 24 rfl rfl
theorem dksX3_join_5 : cX3_join.data.toList.drop 119 = dktX3_join_5 := dk_seg dksX3_join_4 24 rfl rfl
theorem dksX3_join_6 : cX3_join.data.toList.drop 143 = dktX3_join_6 := dk_seg dksX3_join_5 24 rfl rfl
theorem dX3_join_0 : decode cX3_join 0 = .ok (.aload_n 0, 1) := dk_42 (dk_at dksX3_join_0 0 rfl rfl)
theorem dX3_join_1 : decode cX3_join 1 = .ok (.getfield 66, 3) := dk_180 0 66 (dk_at dksX3_join_0 1 rfl rfl)
theorem dX3_join_4 : decode cX3_join 4 = .ok (.iload_n 1, 1) := dk_27 (dk_at dksX3_join_0 4 rfl rfl)
theorem dX3_join_5 : decode cX3_join 5 = .ok (.iaload, 1) := dk_46 (dk_at dksX3_join_0 5 rfl rfl)
theorem dX3_join_6 : decode cX3_join 6 = .ok (.istore_n 2, 1) := dk_61 (dk_at dksX3_join_0 6 rfl rfl)
theorem dX3_join_7 : decode cX3_join 7 = .ok (.aload_n 0, 1) := dk_42 (dk_at dksX3_join_0 7 rfl rfl)
theorem dX3_join_8 : decode cX3_join 8 = .ok (.getfield 78, 3) := dk_180 0 78 (dk_at dksX3_join_0 8 rfl rfl)
theorem dX3_join_11 : decode cX3_join 11 = .ok (.iload_n 2, 1) := dk_28 (dk_at dksX3_join_0 11 rfl rfl)
theorem dX3_join_12 : decode cX3_join 12 = .ok (.iaload, 1) := dk_46 (dk_at dksX3_join_0 12 rfl rfl)
theorem dX3_join_13 : decode cX3_join 13 = .ok (.iconst (-1), 1) := dk_2 (dk_at dksX3_join_0 13 rfl rfl)
theorem dX3_join_14 : decode cX3_join 14 = .ok (.if_icmp .ne 7, 3) := dk_160 0 7 (dk_at dksX3_join_0 14 rfl rfl)
theorem dX3_join_17 : decode cX3_join 17 = .ok (.iconst 1, 1) := dk_4 (dk_at dksX3_join_0 17 rfl rfl)
theorem dX3_join_18 : decode cX3_join 18 = .ok (.goto 4, 3) := dk_167 0 4 (dk_at dksX3_join_0 18 rfl rfl)
theorem dX3_join_21 : decode cX3_join 21 = .ok (.iconst 0, 1) := dk_3 (dk_at dksX3_join_0 21 rfl rfl)
theorem dX3_join_22 : decode cX3_join 22 = .ok (.istore_n 3, 1) := dk_62 (dk_at dksX3_join_0 22 rfl rfl)
theorem dX3_join_23 : decode cX3_join 23 = .ok (.aload_n 0, 1) := dk_42 (dk_at dksX3_join_0 23 rfl rfl)
theorem dX3_join_24 : decode cX3_join 24 = .ok (.getfield 78, 3) := dk_180 0 78 (dk_at dksX3_join_1 0 rfl rfl)
theorem dX3_join_27 : decode cX3_join 27 = .ok (.iload_n 2, 1) := dk_28 (dk_at dksX3_join_1 3 rfl rfl)
theorem dX3_join_28 : decode cX3_join 28 = .ok (.iload_n 3, 1) := dk_29 (dk_at dksX3_join_1 4 rfl rfl)
theorem dX3_join_29 : decode cX3_join 29 = .ok (.ifCond .eq 7, 3) := dk_153 0 7 (dk_at dksX3_join_1 5 rfl rfl)
theorem dX3_join_32 : decode cX3_join 32 = .ok (.iload_n 1, 1) := dk_27 (dk_at dksX3_join_1 8 rfl rfl)
theorem dX3_join_33 : decode cX3_join 33 = .ok (.goto 9, 3) := dk_167 0 9 (dk_at dksX3_join_1 9 rfl rfl)
theorem dX3_join_36 : decode cX3_join 36 = .ok (.aload_n 0, 1) := dk_42 (dk_at dksX3_join_1 12 rfl rfl)
theorem dX3_join_37 : decode cX3_join 37 = .ok (.getfield 78, 3) := dk_180 0 78 (dk_at dksX3_join_1 13 rfl rfl)
theorem dX3_join_40 : decode cX3_join 40 = .ok (.iload_n 2, 1) := dk_28 (dk_at dksX3_join_1 16 rfl rfl)
theorem dX3_join_41 : decode cX3_join 41 = .ok (.iaload, 1) := dk_46 (dk_at dksX3_join_1 17 rfl rfl)
theorem dX3_join_42 : decode cX3_join 42 = .ok (.iastore, 1) := dk_79 (dk_at dksX3_join_1 18 rfl rfl)
theorem dX3_join_43 : decode cX3_join 43 = .ok (.aload_n 0, 1) := dk_42 (dk_at dksX3_join_1 19 rfl rfl)
theorem dX3_join_44 : decode cX3_join 44 = .ok (.getfield 81, 3) := dk_180 0 81 (dk_at dksX3_join_1 20 rfl rfl)
theorem dX3_join_47 : decode cX3_join 47 = .ok (.iload_n 2, 1) := dk_28 (dk_at dksX3_join_1 23 rfl rfl)
theorem dX3_join_48 : decode cX3_join 48 = .ok (.dup2, 1) := dk_92 (dk_at dksX3_join_2 0 rfl rfl)
theorem dX3_join_49 : decode cX3_join 49 = .ok (.iaload, 1) := dk_46 (dk_at dksX3_join_2 1 rfl rfl)
theorem dX3_join_50 : decode cX3_join 50 = .ok (.iconst 1, 1) := dk_4 (dk_at dksX3_join_2 2 rfl rfl)
theorem dX3_join_51 : decode cX3_join 51 = .ok (.iadd, 1) := dk_96 (dk_at dksX3_join_2 3 rfl rfl)
theorem dX3_join_52 : decode cX3_join 52 = .ok (.iastore, 1) := dk_79 (dk_at dksX3_join_2 4 rfl rfl)
theorem dX3_join_53 : decode cX3_join 53 = .ok (.aload_n 0, 1) := dk_42 (dk_at dksX3_join_2 5 rfl rfl)
theorem dX3_join_54 : decode cX3_join 54 = .ok (.getfield 84, 3) := dk_180 0 84 (dk_at dksX3_join_2 6 rfl rfl)
theorem dX3_join_57 : decode cX3_join 57 = .ok (.iload_n 2, 1) := dk_28 (dk_at dksX3_join_2 9 rfl rfl)
theorem dX3_join_58 : decode cX3_join 58 = .ok (.dup2, 1) := dk_92 (dk_at dksX3_join_2 10 rfl rfl)
theorem dX3_join_59 : decode cX3_join 59 = .ok (.iaload, 1) := dk_46 (dk_at dksX3_join_2 11 rfl rfl)
theorem dX3_join_60 : decode cX3_join 60 = .ok (.iconst 1, 1) := dk_4 (dk_at dksX3_join_2 12 rfl rfl)
theorem dX3_join_61 : decode cX3_join 61 = .ok (.aload_n 0, 1) := dk_42 (dk_at dksX3_join_2 13 rfl rfl)
theorem dX3_join_62 : decode cX3_join 62 = .ok (.iload_n 1, 1) := dk_27 (dk_at dksX3_join_2 14 rfl rfl)
theorem dX3_join_63 : decode cX3_join 63 = .ok (.iconst 0, 1) := dk_3 (dk_at dksX3_join_2 15 rfl rfl)
theorem dX3_join_64 : decode cX3_join 64 = .ok (.invokevirtual 205, 3) := dk_182 0 205 (dk_at dksX3_join_2 16 rfl rfl)
theorem dX3_join_67 : decode cX3_join 67 = .ok (.ishl, 1) := dk_120 (dk_at dksX3_join_2 19 rfl rfl)
theorem dX3_join_68 : decode cX3_join 68 = .ok (.ior, 1) := dk_128 (dk_at dksX3_join_2 20 rfl rfl)
theorem dX3_join_69 : decode cX3_join 69 = .ok (.iastore, 1) := dk_79 (dk_at dksX3_join_2 21 rfl rfl)
theorem dX3_join_70 : decode cX3_join 70 = .ok (.aload_n 0, 1) := dk_42 (dk_at dksX3_join_2 22 rfl rfl)
theorem dX3_join_71 : decode cX3_join 71 = .ok (.getfield 69, 3) := dk_180 0 69 (dk_at dksX3_join_3 0 rfl rfl)
theorem dX3_join_74 : decode cX3_join 74 = .ok (.iload_n 2, 1) := dk_28 (dk_at dksX3_join_3 3 rfl rfl)
theorem dX3_join_75 : decode cX3_join 75 = .ok (.iload_n 3, 1) := dk_29 (dk_at dksX3_join_3 4 rfl rfl)
theorem dX3_join_76 : decode cX3_join 76 = .ok (.ifCond .eq 12, 3) := dk_153 0 12 (dk_at dksX3_join_3 5 rfl rfl)
theorem dX3_join_79 : decode cX3_join 79 = .ok (.aload_n 0, 1) := dk_42 (dk_at dksX3_join_3 8 rfl rfl)
theorem dX3_join_80 : decode cX3_join 80 = .ok (.getfield 57, 3) := dk_180 0 57 (dk_at dksX3_join_3 9 rfl rfl)
theorem dX3_join_83 : decode cX3_join 83 = .ok (.iload_n 1, 1) := dk_27 (dk_at dksX3_join_3 12 rfl rfl)
theorem dX3_join_84 : decode cX3_join 84 = .ok (.iaload, 1) := dk_46 (dk_at dksX3_join_3 13 rfl rfl)
theorem dX3_join_85 : decode cX3_join 85 = .ok (.goto 18, 3) := dk_167 0 18 (dk_at dksX3_join_3 14 rfl rfl)
theorem dX3_join_88 : decode cX3_join 88 = .ok (.aload_n 0, 1) := dk_42 (dk_at dksX3_join_3 17 rfl rfl)
theorem dX3_join_89 : decode cX3_join 89 = .ok (.getfield 69, 3) := dk_180 0 69 (dk_at dksX3_join_3 18 rfl rfl)
theorem dX3_join_92 : decode cX3_join 92 = .ok (.iload_n 2, 1) := dk_28 (dk_at dksX3_join_3 21 rfl rfl)
theorem dX3_join_93 : decode cX3_join 93 = .ok (.iaload, 1) := dk_46 (dk_at dksX3_join_3 22 rfl rfl)
theorem dX3_join_94 : decode cX3_join 94 = .ok (.aload_n 0, 1) := dk_42 (dk_at dksX3_join_3 23 rfl rfl)
theorem dX3_join_95 : decode cX3_join 95 = .ok (.getfield 57, 3) := dk_180 0 57 (dk_at dksX3_join_4 0 rfl rfl)
theorem dX3_join_98 : decode cX3_join 98 = .ok (.iload_n 1, 1) := dk_27 (dk_at dksX3_join_4 3 rfl rfl)
theorem dX3_join_99 : decode cX3_join 99 = .ok (.iaload, 1) := dk_46 (dk_at dksX3_join_4 4 rfl rfl)
theorem dX3_join_100 : decode cX3_join 100 = .ok (.invokestatic 215, 3) := dk_184 0 215 (dk_at dksX3_join_4 5 rfl rfl)
theorem dX3_join_103 : decode cX3_join 103 = .ok (.iastore, 1) := dk_79 (dk_at dksX3_join_4 8 rfl rfl)
theorem dX3_join_104 : decode cX3_join 104 = .ok (.aload_n 0, 1) := dk_42 (dk_at dksX3_join_4 9 rfl rfl)
theorem dX3_join_105 : decode cX3_join 105 = .ok (.getfield 72, 3) := dk_180 0 72 (dk_at dksX3_join_4 10 rfl rfl)
theorem dX3_join_108 : decode cX3_join 108 = .ok (.iload_n 2, 1) := dk_28 (dk_at dksX3_join_4 13 rfl rfl)
theorem dX3_join_109 : decode cX3_join 109 = .ok (.aload_n 0, 1) := dk_42 (dk_at dksX3_join_4 14 rfl rfl)
theorem dX3_join_110 : decode cX3_join 110 = .ok (.getfield 72, 3) := dk_180 0 72 (dk_at dksX3_join_4 15 rfl rfl)
theorem dX3_join_113 : decode cX3_join 113 = .ok (.iload_n 2, 1) := dk_28 (dk_at dksX3_join_4 18 rfl rfl)
theorem dX3_join_114 : decode cX3_join 114 = .ok (.iaload, 1) := dk_46 (dk_at dksX3_join_4 19 rfl rfl)
theorem dX3_join_115 : decode cX3_join 115 = .ok (.aload_n 0, 1) := dk_42 (dk_at dksX3_join_4 20 rfl rfl)
theorem dX3_join_116 : decode cX3_join 116 = .ok (.getfield 60, 3) := dk_180 0 60 (dk_at dksX3_join_4 21 rfl rfl)
theorem dX3_join_119 : decode cX3_join 119 = .ok (.iload_n 1, 1) := dk_27 (dk_at dksX3_join_5 0 rfl rfl)
theorem dX3_join_120 : decode cX3_join 120 = .ok (.iaload, 1) := dk_46 (dk_at dksX3_join_5 1 rfl rfl)
theorem dX3_join_121 : decode cX3_join 121 = .ok (.invokestatic 246, 3) := dk_184 0 246 (dk_at dksX3_join_5 2 rfl rfl)
theorem dX3_join_124 : decode cX3_join 124 = .ok (.iastore, 1) := dk_79 (dk_at dksX3_join_5 5 rfl rfl)
theorem dX3_join_125 : decode cX3_join 125 = .ok (.iload_n 3, 1) := dk_29 (dk_at dksX3_join_5 6 rfl rfl)
theorem dX3_join_126 : decode cX3_join 126 = .ok (.ifCond .ne 23, 3) := dk_154 0 23 (dk_at dksX3_join_5 7 rfl rfl)
theorem dX3_join_129 : decode cX3_join 129 = .ok (.aload_n 0, 1) := dk_42 (dk_at dksX3_join_5 10 rfl rfl)
theorem dX3_join_130 : decode cX3_join 130 = .ok (.iload_n 1, 1) := dk_27 (dk_at dksX3_join_5 11 rfl rfl)
theorem dX3_join_131 : decode cX3_join 131 = .ok (.iconst 5, 1) := dk_8 (dk_at dksX3_join_5 12 rfl rfl)
theorem dX3_join_132 : decode cX3_join 132 = .ok (.invokevirtual 205, 3) := dk_182 0 205 (dk_at dksX3_join_5 13 rfl rfl)
theorem dX3_join_135 : decode cX3_join 135 = .ok (.aload_n 0, 1) := dk_42 (dk_at dksX3_join_5 16 rfl rfl)
theorem dX3_join_136 : decode cX3_join 136 = .ok (.aload_n 0, 1) := dk_42 (dk_at dksX3_join_5 17 rfl rfl)
theorem dX3_join_137 : decode cX3_join 137 = .ok (.getfield 75, 3) := dk_180 0 75 (dk_at dksX3_join_5 18 rfl rfl)
theorem dX3_join_140 : decode cX3_join 140 = .ok (.iload_n 2, 1) := dk_28 (dk_at dksX3_join_5 21 rfl rfl)
theorem dX3_join_141 : decode cX3_join 141 = .ok (.iaload, 1) := dk_46 (dk_at dksX3_join_5 22 rfl rfl)
theorem dX3_join_142 : decode cX3_join 142 = .ok (.iconst 5, 1) := dk_8 (dk_at dksX3_join_5 23 rfl rfl)
theorem dX3_join_143 : decode cX3_join 143 = .ok (.invokevirtual 205, 3) := dk_182 0 205 (dk_at dksX3_join_6 0 rfl rfl)
theorem dX3_join_146 : decode cX3_join 146 = .ok (.if_icmp .le 10, 3) := dk_164 0 10 (dk_at dksX3_join_6 3 rfl rfl)
theorem dX3_join_149 : decode cX3_join 149 = .ok (.aload_n 0, 1) := dk_42 (dk_at dksX3_join_6 6 rfl rfl)
theorem dX3_join_150 : decode cX3_join 150 = .ok (.getfield 75, 3) := dk_180 0 75 (dk_at dksX3_join_6 7 rfl rfl)
theorem dX3_join_153 : decode cX3_join 153 = .ok (.iload_n 2, 1) := dk_28 (dk_at dksX3_join_6 10 rfl rfl)
theorem dX3_join_154 : decode cX3_join 154 = .ok (.iload_n 1, 1) := dk_27 (dk_at dksX3_join_6 11 rfl rfl)
theorem dX3_join_155 : decode cX3_join 155 = .ok (.iastore, 1) := dk_79 (dk_at dksX3_join_6 12 rfl rfl)
theorem dX3_join_156 : decode cX3_join 156 = .ok (.return_, 1) := dk_177 (dk_at dksX3_join_6 13 rfl rfl)
abbrev cX3_addEdition : ByteArray := prog_16_method_35_code
def yX3_addEdition : MethodName := ⟨RX3, "addEdition", "(II)I"⟩
def dkwX3_addEdition_4 : List UInt8 := [181, 0, 138, 29, 172]
abbrev dktX3_addEdition_4 : List UInt8 := dkwX3_addEdition_4 ++ []
def dkwX3_addEdition_3 : List UInt8 := [47, 21, 4, 154, 0, 7, 4, 167, 0, 4, 3, 182, 0, 177, 132, 4, 1, 167, 255, 222, 42, 3]
abbrev dktX3_addEdition_3 : List UInt8 := dkwX3_addEdition_3 ++ dktX3_addEdition_4
def dkwX3_addEdition_2 : List UInt8 := [182, 0, 174, 62, 3, 54, 4, 21, 4, 42, 180, 0, 144, 162, 0, 31, 42, 29, 42, 180, 0, 36, 21, 4]
abbrev dktX3_addEdition_2 : List UInt8 := dkwX3_addEdition_2 ++ dktX3_addEdition_3
def dkwX3_addEdition_1 : List UInt8 := [4, 182, 0, 141, 172, 42, 182, 0, 107, 6, 160, 0, 9, 42, 5, 182, 0, 141, 172, 42, 27, 28]
abbrev dktX3_addEdition_1 : List UInt8 := dkwX3_addEdition_1 ++ dktX3_addEdition_2
def dkwX3_addEdition_0 : List UInt8 := [42, 3, 181, 0, 100, 27, 28, 184, 0, 167, 153, 0, 13, 42, 4, 16, 120, 182, 0, 171, 154, 0, 9, 42]
abbrev dktX3_addEdition_0 : List UInt8 := dkwX3_addEdition_0 ++ dktX3_addEdition_1
theorem dksX3_addEdition_0 : cX3_addEdition.data.toList.drop 0 = dktX3_addEdition_0 := by decide +kernel
theorem dksX3_addEdition_1 : cX3_addEdition.data.toList.drop 24 = dktX3_addEdition_1 := dk_seg dksX3_addEdition_0 24 rfl rfl
theorem dksX3_addEdition_2 : cX3_addEdition.data.toList.drop 46 = dktX3_addEdition_2 := dk_seg dksX3_addEdition_1 22 rfl rfl
theorem dksX3_addEdition_3 : cX3_addEdition.data.toList.drop 70 = dktX3_addEdition_3 := dk_seg dksX3_addEdition_2 24 rfl rfl
theorem dksX3_addEdition_4 : cX3_addEdition.data.toList.drop 92 = dktX3_addEdition_4 := dk_seg dksX3_addEdition_3 22 rfl rfl
theorem dX3_addEdition_0 : decode cX3_addEdition 0 = .ok (.aload_n 0, 1) := dk_42 (dk_at dksX3_addEdition_0 0 rfl rfl)
theorem dX3_addEdition_1 : decode cX3_addEdition 1 = .ok (.iconst 0, 1) := dk_3 (dk_at dksX3_addEdition_0 1 rfl rfl)
theorem dX3_addEdition_2 : decode cX3_addEdition 2 = .ok (.putfield 100, 3) := dk_181 0 100 (dk_at dksX3_addEdition_0 2 rfl rfl)
theorem dX3_addEdition_5 : decode cX3_addEdition 5 = .ok (.iload_n 1, 1) := dk_27 (dk_at dksX3_addEdition_0 5 rfl rfl)
theorem dX3_addEdition_6 : decode cX3_addEdition 6 = .ok (.iload_n 2, 1) := dk_28 (dk_at dksX3_addEdition_0 6 rfl rfl)
theorem dX3_addEdition_7 : decode cX3_addEdition 7 = .ok (.invokestatic 167, 3) := dk_184 0 167 (dk_at dksX3_addEdition_0 7 rfl rfl)
theorem dX3_addEdition_10 : decode cX3_addEdition 10 = .ok (.ifCond .eq 13, 3) := dk_153 0 13 (dk_at dksX3_addEdition_0 10 rfl rfl)
theorem dX3_addEdition_13 : decode cX3_addEdition 13 = .ok (.aload_n 0, 1) := dk_42 (dk_at dksX3_addEdition_0 13 rfl rfl)
theorem dX3_addEdition_14 : decode cX3_addEdition 14 = .ok (.iconst 1, 1) := dk_4 (dk_at dksX3_addEdition_0 14 rfl rfl)
theorem dX3_addEdition_15 : decode cX3_addEdition 15 = .ok (.bipush 120, 2) := dk_16 120 (dk_at dksX3_addEdition_0 15 rfl rfl)
theorem dX3_addEdition_17 : decode cX3_addEdition 17 = .ok (.invokevirtual 171, 3) := dk_182 0 171 (dk_at dksX3_addEdition_0 17 rfl rfl)
theorem dX3_addEdition_20 : decode cX3_addEdition 20 = .ok (.ifCond .ne 9, 3) := dk_154 0 9 (dk_at dksX3_addEdition_0 20 rfl rfl)
theorem dX3_addEdition_23 : decode cX3_addEdition 23 = .ok (.aload_n 0, 1) := dk_42 (dk_at dksX3_addEdition_0 23 rfl rfl)
theorem dX3_addEdition_24 : decode cX3_addEdition 24 = .ok (.iconst 1, 1) := dk_4 (dk_at dksX3_addEdition_1 0 rfl rfl)
theorem dX3_addEdition_25 : decode cX3_addEdition 25 = .ok (.invokevirtual 141, 3) := dk_182 0 141 (dk_at dksX3_addEdition_1 1 rfl rfl)
theorem dX3_addEdition_28 : decode cX3_addEdition 28 = .ok (.ireturn, 1) := dk_172 (dk_at dksX3_addEdition_1 4 rfl rfl)
theorem dX3_addEdition_29 : decode cX3_addEdition 29 = .ok (.aload_n 0, 1) := dk_42 (dk_at dksX3_addEdition_1 5 rfl rfl)
theorem dX3_addEdition_30 : decode cX3_addEdition 30 = .ok (.invokevirtual 107, 3) := dk_182 0 107 (dk_at dksX3_addEdition_1 6 rfl rfl)
theorem dX3_addEdition_33 : decode cX3_addEdition 33 = .ok (.iconst 3, 1) := dk_6 (dk_at dksX3_addEdition_1 9 rfl rfl)
theorem dX3_addEdition_34 : decode cX3_addEdition 34 = .ok (.if_icmp .ne 9, 3) := dk_160 0 9 (dk_at dksX3_addEdition_1 10 rfl rfl)
theorem dX3_addEdition_37 : decode cX3_addEdition 37 = .ok (.aload_n 0, 1) := dk_42 (dk_at dksX3_addEdition_1 13 rfl rfl)
theorem dX3_addEdition_38 : decode cX3_addEdition 38 = .ok (.iconst 2, 1) := dk_5 (dk_at dksX3_addEdition_1 14 rfl rfl)
theorem dX3_addEdition_39 : decode cX3_addEdition 39 = .ok (.invokevirtual 141, 3) := dk_182 0 141 (dk_at dksX3_addEdition_1 15 rfl rfl)
theorem dX3_addEdition_42 : decode cX3_addEdition 42 = .ok (.ireturn, 1) := dk_172 (dk_at dksX3_addEdition_1 18 rfl rfl)
theorem dX3_addEdition_43 : decode cX3_addEdition 43 = .ok (.aload_n 0, 1) := dk_42 (dk_at dksX3_addEdition_1 19 rfl rfl)
theorem dX3_addEdition_44 : decode cX3_addEdition 44 = .ok (.iload_n 1, 1) := dk_27 (dk_at dksX3_addEdition_1 20 rfl rfl)
theorem dX3_addEdition_45 : decode cX3_addEdition 45 = .ok (.iload_n 2, 1) := dk_28 (dk_at dksX3_addEdition_1 21 rfl rfl)
theorem dX3_addEdition_46 : decode cX3_addEdition 46 = .ok (.invokevirtual 174, 3) := dk_182 0 174 (dk_at dksX3_addEdition_2 0 rfl rfl)
theorem dX3_addEdition_49 : decode cX3_addEdition 49 = .ok (.istore_n 3, 1) := dk_62 (dk_at dksX3_addEdition_2 3 rfl rfl)
theorem dX3_addEdition_50 : decode cX3_addEdition 50 = .ok (.iconst 0, 1) := dk_3 (dk_at dksX3_addEdition_2 4 rfl rfl)
theorem dX3_addEdition_51 : decode cX3_addEdition 51 = .ok (.istore 4, 2) := dk_54 4 (dk_at dksX3_addEdition_2 5 rfl rfl)
theorem dX3_addEdition_53 : decode cX3_addEdition 53 = .ok (.iload 4, 2) := dk_21 4 (dk_at dksX3_addEdition_2 7 rfl rfl)
theorem dX3_addEdition_55 : decode cX3_addEdition 55 = .ok (.aload_n 0, 1) := dk_42 (dk_at dksX3_addEdition_2 9 rfl rfl)
theorem dX3_addEdition_56 : decode cX3_addEdition 56 = .ok (.getfield 144, 3) := dk_180 0 144 (dk_at dksX3_addEdition_2 10 rfl rfl)
theorem dX3_addEdition_59 : decode cX3_addEdition 59 = .ok (.if_icmp .ge 31, 3) := dk_162 0 31 (dk_at dksX3_addEdition_2 13 rfl rfl)
theorem dX3_addEdition_62 : decode cX3_addEdition 62 = .ok (.aload_n 0, 1) := dk_42 (dk_at dksX3_addEdition_2 16 rfl rfl)
theorem dX3_addEdition_63 : decode cX3_addEdition 63 = .ok (.iload_n 3, 1) := dk_29 (dk_at dksX3_addEdition_2 17 rfl rfl)
theorem dX3_addEdition_64 : decode cX3_addEdition 64 = .ok (.aload_n 0, 1) := dk_42 (dk_at dksX3_addEdition_2 18 rfl rfl)
theorem dX3_addEdition_65 : decode cX3_addEdition 65 = .ok (.getfield 36, 3) := dk_180 0 36 (dk_at dksX3_addEdition_2 19 rfl rfl)
theorem dX3_addEdition_68 : decode cX3_addEdition 68 = .ok (.iload 4, 2) := dk_21 4 (dk_at dksX3_addEdition_2 22 rfl rfl)
theorem dX3_addEdition_70 : decode cX3_addEdition 70 = .ok (.laload, 1) := dk_47 (dk_at dksX3_addEdition_3 0 rfl rfl)
theorem dX3_addEdition_71 : decode cX3_addEdition 71 = .ok (.iload 4, 2) := dk_21 4 (dk_at dksX3_addEdition_3 1 rfl rfl)
theorem dX3_addEdition_73 : decode cX3_addEdition 73 = .ok (.ifCond .ne 7, 3) := dk_154 0 7 (dk_at dksX3_addEdition_3 3 rfl rfl)
theorem dX3_addEdition_76 : decode cX3_addEdition 76 = .ok (.iconst 1, 1) := dk_4 (dk_at dksX3_addEdition_3 6 rfl rfl)
theorem dX3_addEdition_77 : decode cX3_addEdition 77 = .ok (.goto 4, 3) := dk_167 0 4 (dk_at dksX3_addEdition_3 7 rfl rfl)
theorem dX3_addEdition_80 : decode cX3_addEdition 80 = .ok (.iconst 0, 1) := dk_3 (dk_at dksX3_addEdition_3 10 rfl rfl)
theorem dX3_addEdition_81 : decode cX3_addEdition 81 = .ok (.invokevirtual 177, 3) := dk_182 0 177 (dk_at dksX3_addEdition_3 11 rfl rfl)
theorem dX3_addEdition_84 : decode cX3_addEdition 84 = .ok (.iinc 4 1, 3) := dk_132 4 1 (dk_at dksX3_addEdition_3 14 rfl rfl)
theorem dX3_addEdition_87 : decode cX3_addEdition 87 = .ok (.goto (-34), 3) := dk_167 255 222 (dk_at dksX3_addEdition_3 17 rfl rfl)
theorem dX3_addEdition_90 : decode cX3_addEdition 90 = .ok (.aload_n 0, 1) := dk_42 (dk_at dksX3_addEdition_3 20 rfl rfl)
theorem dX3_addEdition_91 : decode cX3_addEdition 91 = .ok (.iconst 0, 1) := dk_3 (dk_at dksX3_addEdition_3 21 rfl rfl)
theorem dX3_addEdition_92 : decode cX3_addEdition 92 = .ok (.putfield 138, 3) := dk_181 0 138 (dk_at dksX3_addEdition_4 0 rfl rfl)
theorem dX3_addEdition_95 : decode cX3_addEdition 95 = .ok (.iload_n 3, 1) := dk_29 (dk_at dksX3_addEdition_4 3 rfl rfl)
theorem dX3_addEdition_96 : decode cX3_addEdition 96 = .ok (.ireturn, 1) := dk_172 (dk_at dksX3_addEdition_4 4 rfl rfl)
abbrev cX3_isLayout : ByteArray := prog_16_method_32_code
def yX3_isLayout : MethodName := ⟨RX3, "isLayout", "(II)Z"⟩
def dkwX3_isLayout_1 : List UInt8 := [167, 0, 4, 3, 172]
abbrev dktX3_isLayout_1 : List UInt8 := dkwX3_isLayout_1 ++ []
def dkwX3_isLayout_0 : List UInt8 := [26, 16, 8, 16, 60, 184, 0, 111, 153, 0, 17, 27, 4, 16, 40, 184, 0, 111, 153, 0, 7, 4]
abbrev dktX3_isLayout_0 : List UInt8 := dkwX3_isLayout_0 ++ dktX3_isLayout_1
theorem dksX3_isLayout_0 : cX3_isLayout.data.toList.drop 0 = dktX3_isLayout_0 := by decide +kernel
theorem dksX3_isLayout_1 : cX3_isLayout.data.toList.drop 22 = dktX3_isLayout_1 := dk_seg dksX3_isLayout_0 22 rfl rfl
theorem dX3_isLayout_0 : decode cX3_isLayout 0 = .ok (.iload_n 0, 1) := dk_26 (dk_at dksX3_isLayout_0 0 rfl rfl)
theorem dX3_isLayout_1 : decode cX3_isLayout 1 = .ok (.bipush 8, 2) := dk_16 8 (dk_at dksX3_isLayout_0 1 rfl rfl)
theorem dX3_isLayout_3 : decode cX3_isLayout 3 = .ok (.bipush 60, 2) := dk_16 60 (dk_at dksX3_isLayout_0 3 rfl rfl)
theorem dX3_isLayout_5 : decode cX3_isLayout 5 = .ok (.invokestatic 111, 3) := dk_184 0 111 (dk_at dksX3_isLayout_0 5 rfl rfl)
theorem dX3_isLayout_8 : decode cX3_isLayout 8 = .ok (.ifCond .eq 17, 3) := dk_153 0 17 (dk_at dksX3_isLayout_0 8 rfl rfl)
theorem dX3_isLayout_11 : decode cX3_isLayout 11 = .ok (.iload_n 1, 1) := dk_27 (dk_at dksX3_isLayout_0 11 rfl rfl)
theorem dX3_isLayout_12 : decode cX3_isLayout 12 = .ok (.iconst 1, 1) := dk_4 (dk_at dksX3_isLayout_0 12 rfl rfl)
theorem dX3_isLayout_13 : decode cX3_isLayout 13 = .ok (.bipush 40, 2) := dk_16 40 (dk_at dksX3_isLayout_0 13 rfl rfl)
theorem dX3_isLayout_15 : decode cX3_isLayout 15 = .ok (.invokestatic 111, 3) := dk_184 0 111 (dk_at dksX3_isLayout_0 15 rfl rfl)
theorem dX3_isLayout_18 : decode cX3_isLayout 18 = .ok (.ifCond .eq 7, 3) := dk_153 0 7 (dk_at dksX3_isLayout_0 18 rfl rfl)
theorem dX3_isLayout_21 : decode cX3_isLayout 21 = .ok (.iconst 1, 1) := dk_4 (dk_at dksX3_isLayout_0 21 rfl rfl)
theorem dX3_isLayout_22 : decode cX3_isLayout 22 = .ok (.goto 4, 3) := dk_167 0 4 (dk_at dksX3_isLayout_1 0 rfl rfl)
theorem dX3_isLayout_25 : decode cX3_isLayout 25 = .ok (.iconst 0, 1) := dk_3 (dk_at dksX3_isLayout_1 3 rfl rfl)
theorem dX3_isLayout_26 : decode cX3_isLayout 26 = .ok (.ireturn, 1) := dk_172 (dk_at dksX3_isLayout_1 4 rfl rfl)
abbrev cX3_hasWords : ByteArray := prog_16_method_30_code
def yX3_hasWords : MethodName := ⟨RX3, "hasWords", "(II)Z"⟩
def dkwX3_hasWords_7 : List UInt8 := [184, 0, 111, 153, 0, 7, 4, 167, 0, 4, 3, 172]
abbrev dktX3_hasWords_7 : List UInt8 := dkwX3_hasWords_7 ++ []
def dkwX3_hasWords_6 : List UInt8 := [96, 181, 0, 144, 167, 0, 6, 132, 4, 1, 167, 255, 114, 29, 153, 0, 19, 42, 180, 0, 144, 27, 28]
abbrev dktX3_hasWords_6 : List UInt8 := dkwX3_hasWords_6 ++ dktX3_hasWords_7
def dkwX3_hasWords_5 : List UInt8 := [21, 4, 21, 5, 164, 0, 27, 42, 180, 0, 36, 42, 180, 0, 144, 22, 6, 80, 42, 89, 180, 0, 144, 4]
abbrev dktX3_hasWords_5 : List UInt8 := dkwX3_hasWords_5 ++ dktX3_hasWords_6
def dkwX3_hasWords_4 : List UInt8 := [21, 5, 163, 0, 15, 42, 21, 4, 182, 0, 147, 184, 0, 155, 153, 0, 7, 4, 167, 0, 4, 3, 62]
abbrev dktX3_hasWords_4 : List UInt8 := dkwX3_hasWords_4 ++ dktX3_hasWords_5
def dkwX3_hasWords_3 : List UInt8 := [55, 6, 132, 4, 1, 167, 255, 206, 29, 153, 0, 36, 21, 4, 21, 5, 100, 16, 8, 163, 0, 26, 21, 4]
abbrev dktX3_hasWords_3 : List UInt8 := dkwX3_hasWords_3 ++ dktX3_hasWords_4
def dkwX3_hasWords_2 : List UInt8 := [20, 0, 132, 22, 6, 105, 42, 21, 4, 182, 0, 147, 133, 97, 20, 0, 153, 101, 167, 0, 5, 22, 6]
abbrev dktX3_hasWords_2 : List UInt8 := dkwX3_hasWords_2 ++ dktX3_hasWords_3
def dkwX3_hasWords_1 : List UInt8 := [55, 6, 42, 21, 4, 182, 0, 147, 184, 0, 150, 153, 0, 44, 21, 4, 21, 5, 100, 16, 8, 162, 0, 24]
abbrev dktX3_hasWords_1 : List UInt8 := dkwX3_hasWords_1 ++ dktX3_hasWords_2
def dkwX3_hasWords_0 : List UInt8 := [4, 62, 3, 54, 4, 42, 3, 181, 0, 144, 21, 4, 42, 180, 0, 138, 162, 0, 139, 21, 4, 54, 5, 9]
abbrev dktX3_hasWords_0 : List UInt8 := dkwX3_hasWords_0 ++ dktX3_hasWords_1
theorem dksX3_hasWords_0 : cX3_hasWords.data.toList.drop 0 = dktX3_hasWords_0 := by decide +kernel
theorem dksX3_hasWords_1 : cX3_hasWords.data.toList.drop 24 = dktX3_hasWords_1 := dk_seg dksX3_hasWords_0 24 rfl rfl
theorem dksX3_hasWords_2 : cX3_hasWords.data.toList.drop 48 = dktX3_hasWords_2 := dk_seg dksX3_hasWords_1 24 rfl rfl
theorem dksX3_hasWords_3 : cX3_hasWords.data.toList.drop 71 = dktX3_hasWords_3 := dk_seg dksX3_hasWords_2 23 rfl rfl
theorem dksX3_hasWords_4 : cX3_hasWords.data.toList.drop 95 = dktX3_hasWords_4 := dk_seg dksX3_hasWords_3 24 rfl rfl
theorem dksX3_hasWords_5 : cX3_hasWords.data.toList.drop 118 = dktX3_hasWords_5 := dk_seg dksX3_hasWords_4 23 rfl rfl
theorem dksX3_hasWords_6 : cX3_hasWords.data.toList.drop 142 = dktX3_hasWords_6 := dk_seg dksX3_hasWords_5 24 rfl rfl
theorem dksX3_hasWords_7 : cX3_hasWords.data.toList.drop 165 = dktX3_hasWords_7 := dk_seg dksX3_hasWords_6 23 rfl rfl
theorem dX3_hasWords_0 : decode cX3_hasWords 0 = .ok (.iconst 1, 1) := dk_4 (dk_at dksX3_hasWords_0 0 rfl rfl)
theorem dX3_hasWords_1 : decode cX3_hasWords 1 = .ok (.istore_n 3, 1) := dk_62 (dk_at dksX3_hasWords_0 1 rfl rfl)
theorem dX3_hasWords_2 : decode cX3_hasWords 2 = .ok (.iconst 0, 1) := dk_3 (dk_at dksX3_hasWords_0 2 rfl rfl)
theorem dX3_hasWords_3 : decode cX3_hasWords 3 = .ok (.istore 4, 2) := dk_54 4 (dk_at dksX3_hasWords_0 3 rfl rfl)
theorem dX3_hasWords_5 : decode cX3_hasWords 5 = .ok (.aload_n 0, 1) := dk_42 (dk_at dksX3_hasWords_0 5 rfl rfl)
theorem dX3_hasWords_6 : decode cX3_hasWords 6 = .ok (.iconst 0, 1) := dk_3 (dk_at dksX3_hasWords_0 6 rfl rfl)
theorem dX3_hasWords_7 : decode cX3_hasWords 7 = .ok (.putfield 144, 3) := dk_181 0 144 (dk_at dksX3_hasWords_0 7 rfl rfl)
theorem dX3_hasWords_10 : decode cX3_hasWords 10 = .ok (.iload 4, 2) := dk_21 4 (dk_at dksX3_hasWords_0 10 rfl rfl)
theorem dX3_hasWords_12 : decode cX3_hasWords 12 = .ok (.aload_n 0, 1) := dk_42 (dk_at dksX3_hasWords_0 12 rfl rfl)
theorem dX3_hasWords_13 : decode cX3_hasWords 13 = .ok (.getfield 138, 3) := dk_180 0 138 (dk_at dksX3_hasWords_0 13 rfl rfl)
theorem dX3_hasWords_16 : decode cX3_hasWords 16 = .ok (.if_icmp .ge 139, 3) := dk_162 0 139 (dk_at dksX3_hasWords_0 16 rfl rfl)
theorem dX3_hasWords_19 : decode cX3_hasWords 19 = .ok (.iload 4, 2) := dk_21 4 (dk_at dksX3_hasWords_0 19 rfl rfl)
theorem dX3_hasWords_21 : decode cX3_hasWords 21 = .ok (.istore 5, 2) := dk_54 5 (dk_at dksX3_hasWords_0 21 rfl rfl)
theorem dX3_hasWords_23 : decode cX3_hasWords 23 = .ok (.lconst 0, 1) := dk_9 (dk_at dksX3_hasWords_0 23 rfl rfl)
theorem dX3_hasWords_24 : decode cX3_hasWords 24 = .ok (.lstore 6, 2) := dk_55 6 (dk_at dksX3_hasWords_1 0 rfl rfl)
theorem dX3_hasWords_26 : decode cX3_hasWords 26 = .ok (.aload_n 0, 1) := dk_42 (dk_at dksX3_hasWords_1 2 rfl rfl)
theorem dX3_hasWords_27 : decode cX3_hasWords 27 = .ok (.iload 4, 2) := dk_21 4 (dk_at dksX3_hasWords_1 3 rfl rfl)
theorem dX3_hasWords_29 : decode cX3_hasWords 29 = .ok (.invokevirtual 147, 3) := dk_182 0 147 (dk_at dksX3_hasWords_1 5 rfl rfl)
theorem dX3_hasWords_32 : decode cX3_hasWords 32 = .ok (.invokestatic 150, 3) := dk_184 0 150 (dk_at dksX3_hasWords_1 8 rfl rfl)
theorem dX3_hasWords_35 : decode cX3_hasWords 35 = .ok (.ifCond .eq 44, 3) := dk_153 0 44 (dk_at dksX3_hasWords_1 11 rfl rfl)
theorem dX3_hasWords_38 : decode cX3_hasWords 38 = .ok (.iload 4, 2) := dk_21 4 (dk_at dksX3_hasWords_1 14 rfl rfl)
theorem dX3_hasWords_40 : decode cX3_hasWords 40 = .ok (.iload 5, 2) := dk_21 5 (dk_at dksX3_hasWords_1 16 rfl rfl)
theorem dX3_hasWords_42 : decode cX3_hasWords 42 = .ok (.isub, 1) := dk_100 (dk_at dksX3_hasWords_1 18 rfl rfl)
theorem dX3_hasWords_43 : decode cX3_hasWords 43 = .ok (.bipush 8, 2) := dk_16 8 (dk_at dksX3_hasWords_1 19 rfl rfl)
theorem dX3_hasWords_45 : decode cX3_hasWords 45 = .ok (.if_icmp .ge 24, 3) := dk_162 0 24 (dk_at dksX3_hasWords_1 21 rfl rfl)
theorem dX3_hasWords_48 : decode cX3_hasWords 48 = .ok (.ldc2_w 132, 3) := dk_20 0 132 (dk_at dksX3_hasWords_2 0 rfl rfl)
theorem dX3_hasWords_51 : decode cX3_hasWords 51 = .ok (.lload 6, 2) := dk_22 6 (dk_at dksX3_hasWords_2 3 rfl rfl)
theorem dX3_hasWords_53 : decode cX3_hasWords 53 = .ok (.lmul, 1) := dk_105 (dk_at dksX3_hasWords_2 5 rfl rfl)
theorem dX3_hasWords_54 : decode cX3_hasWords 54 = .ok (.aload_n 0, 1) := dk_42 (dk_at dksX3_hasWords_2 6 rfl rfl)
theorem dX3_hasWords_55 : decode cX3_hasWords 55 = .ok (.iload 4, 2) := dk_21 4 (dk_at dksX3_hasWords_2 7 rfl rfl)
theorem dX3_hasWords_57 : decode cX3_hasWords 57 = .ok (.invokevirtual 147, 3) := dk_182 0 147 (dk_at dksX3_hasWords_2 9 rfl rfl)
theorem dX3_hasWords_60 : decode cX3_hasWords 60 = .ok (.i2l, 1) := dk_133 (dk_at dksX3_hasWords_2 12 rfl rfl)
theorem dX3_hasWords_61 : decode cX3_hasWords 61 = .ok (.ladd, 1) := dk_97 (dk_at dksX3_hasWords_2 13 rfl rfl)
theorem dX3_hasWords_62 : decode cX3_hasWords 62 = .ok (.ldc2_w 153, 3) := dk_20 0 153 (dk_at dksX3_hasWords_2 14 rfl rfl)
theorem dX3_hasWords_65 : decode cX3_hasWords 65 = .ok (.lsub, 1) := dk_101 (dk_at dksX3_hasWords_2 17 rfl rfl)
theorem dX3_hasWords_66 : decode cX3_hasWords 66 = .ok (.goto 5, 3) := dk_167 0 5 (dk_at dksX3_hasWords_2 18 rfl rfl)
theorem dX3_hasWords_69 : decode cX3_hasWords 69 = .ok (.lload 6, 2) := dk_22 6 (dk_at dksX3_hasWords_2 21 rfl rfl)
theorem dX3_hasWords_71 : decode cX3_hasWords 71 = .ok (.lstore 6, 2) := dk_55 6 (dk_at dksX3_hasWords_3 0 rfl rfl)
theorem dX3_hasWords_73 : decode cX3_hasWords 73 = .ok (.iinc 4 1, 3) := dk_132 4 1 (dk_at dksX3_hasWords_3 2 rfl rfl)
theorem dX3_hasWords_76 : decode cX3_hasWords 76 = .ok (.goto (-50), 3) := dk_167 255 206 (dk_at dksX3_hasWords_3 5 rfl rfl)
theorem dX3_hasWords_79 : decode cX3_hasWords 79 = .ok (.iload_n 3, 1) := dk_29 (dk_at dksX3_hasWords_3 8 rfl rfl)
theorem dX3_hasWords_80 : decode cX3_hasWords 80 = .ok (.ifCond .eq 36, 3) := dk_153 0 36 (dk_at dksX3_hasWords_3 9 rfl rfl)
theorem dX3_hasWords_83 : decode cX3_hasWords 83 = .ok (.iload 4, 2) := dk_21 4 (dk_at dksX3_hasWords_3 12 rfl rfl)
theorem dX3_hasWords_85 : decode cX3_hasWords 85 = .ok (.iload 5, 2) := dk_21 5 (dk_at dksX3_hasWords_3 14 rfl rfl)
theorem dX3_hasWords_87 : decode cX3_hasWords 87 = .ok (.isub, 1) := dk_100 (dk_at dksX3_hasWords_3 16 rfl rfl)
theorem dX3_hasWords_88 : decode cX3_hasWords 88 = .ok (.bipush 8, 2) := dk_16 8 (dk_at dksX3_hasWords_3 17 rfl rfl)
theorem dX3_hasWords_90 : decode cX3_hasWords 90 = .ok (.if_icmp .gt 26, 3) := dk_163 0 26 (dk_at dksX3_hasWords_3 19 rfl rfl)
theorem dX3_hasWords_93 : decode cX3_hasWords 93 = .ok (.iload 4, 2) := dk_21 4 (dk_at dksX3_hasWords_3 22 rfl rfl)
theorem dX3_hasWords_95 : decode cX3_hasWords 95 = .ok (.iload 5, 2) := dk_21 5 (dk_at dksX3_hasWords_4 0 rfl rfl)
theorem dX3_hasWords_97 : decode cX3_hasWords 97 = .ok (.if_icmp .gt 15, 3) := dk_163 0 15 (dk_at dksX3_hasWords_4 2 rfl rfl)
theorem dX3_hasWords_100 : decode cX3_hasWords 100 = .ok (.aload_n 0, 1) := dk_42 (dk_at dksX3_hasWords_4 5 rfl rfl)
theorem dX3_hasWords_101 : decode cX3_hasWords 101 = .ok (.iload 4, 2) := dk_21 4 (dk_at dksX3_hasWords_4 6 rfl rfl)
theorem dX3_hasWords_103 : decode cX3_hasWords 103 = .ok (.invokevirtual 147, 3) := dk_182 0 147 (dk_at dksX3_hasWords_4 8 rfl rfl)
theorem dX3_hasWords_106 : decode cX3_hasWords 106 = .ok (.invokestatic 155, 3) := dk_184 0 155 (dk_at dksX3_hasWords_4 11 rfl rfl)
theorem dX3_hasWords_109 : decode cX3_hasWords 109 = .ok (.ifCond .eq 7, 3) := dk_153 0 7 (dk_at dksX3_hasWords_4 14 rfl rfl)
theorem dX3_hasWords_112 : decode cX3_hasWords 112 = .ok (.iconst 1, 1) := dk_4 (dk_at dksX3_hasWords_4 17 rfl rfl)
theorem dX3_hasWords_113 : decode cX3_hasWords 113 = .ok (.goto 4, 3) := dk_167 0 4 (dk_at dksX3_hasWords_4 18 rfl rfl)
theorem dX3_hasWords_116 : decode cX3_hasWords 116 = .ok (.iconst 0, 1) := dk_3 (dk_at dksX3_hasWords_4 21 rfl rfl)
theorem dX3_hasWords_117 : decode cX3_hasWords 117 = .ok (.istore_n 3, 1) := dk_62 (dk_at dksX3_hasWords_4 22 rfl rfl)
theorem dX3_hasWords_118 : decode cX3_hasWords 118 = .ok (.iload 4, 2) := dk_21 4 (dk_at dksX3_hasWords_5 0 rfl rfl)
theorem dX3_hasWords_120 : decode cX3_hasWords 120 = .ok (.iload 5, 2) := dk_21 5 (dk_at dksX3_hasWords_5 2 rfl rfl)
theorem dX3_hasWords_122 : decode cX3_hasWords 122 = .ok (.if_icmp .le 27, 3) := dk_164 0 27 (dk_at dksX3_hasWords_5 4 rfl rfl)
theorem dX3_hasWords_125 : decode cX3_hasWords 125 = .ok (.aload_n 0, 1) := dk_42 (dk_at dksX3_hasWords_5 7 rfl rfl)
theorem dX3_hasWords_126 : decode cX3_hasWords 126 = .ok (.getfield 36, 3) := dk_180 0 36 (dk_at dksX3_hasWords_5 8 rfl rfl)
theorem dX3_hasWords_129 : decode cX3_hasWords 129 = .ok (.aload_n 0, 1) := dk_42 (dk_at dksX3_hasWords_5 11 rfl rfl)
theorem dX3_hasWords_130 : decode cX3_hasWords 130 = .ok (.getfield 144, 3) := dk_180 0 144 (dk_at dksX3_hasWords_5 12 rfl rfl)
theorem dX3_hasWords_133 : decode cX3_hasWords 133 = .ok (.lload 6, 2) := dk_22 6 (dk_at dksX3_hasWords_5 15 rfl rfl)
theorem dX3_hasWords_135 : decode cX3_hasWords 135 = .ok (.lastore, 1) := dk_80 (dk_at dksX3_hasWords_5 17 rfl rfl)
theorem dX3_hasWords_136 : decode cX3_hasWords 136 = .ok (.aload_n 0, 1) := dk_42 (dk_at dksX3_hasWords_5 18 rfl rfl)
theorem dX3_hasWords_137 : decode cX3_hasWords 137 = .ok (.dup, 1) := dk_89 (dk_at dksX3_hasWords_5 19 rfl rfl)
theorem dX3_hasWords_138 : decode cX3_hasWords 138 = .ok (.getfield 144, 3) := dk_180 0 144 (dk_at dksX3_hasWords_5 20 rfl rfl)
theorem dX3_hasWords_141 : decode cX3_hasWords 141 = .ok (.iconst 1, 1) := dk_4 (dk_at dksX3_hasWords_5 23 rfl rfl)
theorem dX3_hasWords_142 : decode cX3_hasWords 142 = .ok (.iadd, 1) := dk_96 (dk_at dksX3_hasWords_6 0 rfl rfl)
theorem dX3_hasWords_143 : decode cX3_hasWords 143 = .ok (.putfield 144, 3) := dk_181 0 144 (dk_at dksX3_hasWords_6 1 rfl rfl)
theorem dX3_hasWords_146 : decode cX3_hasWords 146 = .ok (.goto 6, 3) := dk_167 0 6 (dk_at dksX3_hasWords_6 4 rfl rfl)
theorem dX3_hasWords_149 : decode cX3_hasWords 149 = .ok (.iinc 4 1, 3) := dk_132 4 1 (dk_at dksX3_hasWords_6 7 rfl rfl)
theorem dX3_hasWords_152 : decode cX3_hasWords 152 = .ok (.goto (-142), 3) := dk_167 255 114 (dk_at dksX3_hasWords_6 10 rfl rfl)
theorem dX3_hasWords_155 : decode cX3_hasWords 155 = .ok (.iload_n 3, 1) := dk_29 (dk_at dksX3_hasWords_6 13 rfl rfl)
theorem dX3_hasWords_156 : decode cX3_hasWords 156 = .ok (.ifCond .eq 19, 3) := dk_153 0 19 (dk_at dksX3_hasWords_6 14 rfl rfl)
theorem dX3_hasWords_159 : decode cX3_hasWords 159 = .ok (.aload_n 0, 1) := dk_42 (dk_at dksX3_hasWords_6 17 rfl rfl)
theorem dX3_hasWords_160 : decode cX3_hasWords 160 = .ok (.getfield 144, 3) := dk_180 0 144 (dk_at dksX3_hasWords_6 18 rfl rfl)
theorem dX3_hasWords_163 : decode cX3_hasWords 163 = .ok (.iload_n 1, 1) := dk_27 (dk_at dksX3_hasWords_6 21 rfl rfl)
theorem dX3_hasWords_164 : decode cX3_hasWords 164 = .ok (.iload_n 2, 1) := dk_28 (dk_at dksX3_hasWords_6 22 rfl rfl)
theorem dX3_hasWords_165 : decode cX3_hasWords 165 = .ok (.invokestatic 111, 3) := dk_184 0 111 (dk_at dksX3_hasWords_7 0 rfl rfl)
theorem dX3_hasWords_168 : decode cX3_hasWords 168 = .ok (.ifCond .eq 7, 3) := dk_153 0 7 (dk_at dksX3_hasWords_7 3 rfl rfl)
theorem dX3_hasWords_171 : decode cX3_hasWords 171 = .ok (.iconst 1, 1) := dk_4 (dk_at dksX3_hasWords_7 6 rfl rfl)
theorem dX3_hasWords_172 : decode cX3_hasWords 172 = .ok (.goto 4, 3) := dk_167 0 4 (dk_at dksX3_hasWords_7 7 rfl rfl)
theorem dX3_hasWords_175 : decode cX3_hasWords 175 = .ok (.iconst 0, 1) := dk_3 (dk_at dksX3_hasWords_7 10 rfl rfl)
theorem dX3_hasWords_176 : decode cX3_hasWords 176 = .ok (.ireturn, 1) := dk_172 (dk_at dksX3_hasWords_7 11 rfl rfl)
abbrev cX3_byteAt : ByteArray := prog_16_method_26_code
def yX3_byteAt : MethodName := ⟨RX3, "byteAt", "(I)I"⟩
def dkwX3_byteAt_0 : List UInt8 := [27, 42, 180, 0, 138, 162, 0, 12, 42, 180, 0, 33, 27, 46, 167, 0, 4, 2, 172]
abbrev dktX3_byteAt_0 : List UInt8 := dkwX3_byteAt_0 ++ []
theorem dksX3_byteAt_0 : cX3_byteAt.data.toList.drop 0 = dktX3_byteAt_0 := by decide +kernel
theorem dX3_byteAt_0 : decode cX3_byteAt 0 = .ok (.iload_n 1, 1) := dk_27 (dk_at dksX3_byteAt_0 0 rfl rfl)
theorem dX3_byteAt_1 : decode cX3_byteAt 1 = .ok (.aload_n 0, 1) := dk_42 (dk_at dksX3_byteAt_0 1 rfl rfl)
theorem dX3_byteAt_2 : decode cX3_byteAt 2 = .ok (.getfield 138, 3) := dk_180 0 138 (dk_at dksX3_byteAt_0 2 rfl rfl)
theorem dX3_byteAt_5 : decode cX3_byteAt 5 = .ok (.if_icmp .ge 12, 3) := dk_162 0 12 (dk_at dksX3_byteAt_0 5 rfl rfl)
theorem dX3_byteAt_8 : decode cX3_byteAt 8 = .ok (.aload_n 0, 1) := dk_42 (dk_at dksX3_byteAt_0 8 rfl rfl)
theorem dX3_byteAt_9 : decode cX3_byteAt 9 = .ok (.getfield 33, 3) := dk_180 0 33 (dk_at dksX3_byteAt_0 9 rfl rfl)
theorem dX3_byteAt_12 : decode cX3_byteAt 12 = .ok (.iload_n 1, 1) := dk_27 (dk_at dksX3_byteAt_0 12 rfl rfl)
theorem dX3_byteAt_13 : decode cX3_byteAt 13 = .ok (.iaload, 1) := dk_46 (dk_at dksX3_byteAt_0 13 rfl rfl)
theorem dX3_byteAt_14 : decode cX3_byteAt 14 = .ok (.goto 4, 3) := dk_167 0 4 (dk_at dksX3_byteAt_0 14 rfl rfl)
theorem dX3_byteAt_17 : decode cX3_byteAt 17 = .ok (.iconst (-1), 1) := dk_2 (dk_at dksX3_byteAt_0 17 rfl rfl)
theorem dX3_byteAt_18 : decode cX3_byteAt 18 = .ok (.ireturn, 1) := dk_172 (dk_at dksX3_byteAt_0 18 rfl rfl)
abbrev cX3_isLetter : ByteArray := prog_16_method_27_code
def yX3_isLetter : MethodName := ⟨RX3, "isLetter", "(I)Z"⟩
def dkwX3_isLetter_0 : List UInt8 := [26, 16, 97, 16, 122, 184, 0, 111, 172]
abbrev dktX3_isLetter_0 : List UInt8 := dkwX3_isLetter_0 ++ []
theorem dksX3_isLetter_0 : cX3_isLetter.data.toList.drop 0 = dktX3_isLetter_0 := by decide +kernel
theorem dX3_isLetter_0 : decode cX3_isLetter 0 = .ok (.iload_n 0, 1) := dk_26 (dk_at dksX3_isLetter_0 0 rfl rfl)
theorem dX3_isLetter_1 : decode cX3_isLetter 1 = .ok (.bipush 97, 2) := dk_16 97 (dk_at dksX3_isLetter_0 1 rfl rfl)
theorem dX3_isLetter_3 : decode cX3_isLetter 3 = .ok (.bipush 122, 2) := dk_16 122 (dk_at dksX3_isLetter_0 3 rfl rfl)
theorem dX3_isLetter_5 : decode cX3_isLetter 5 = .ok (.invokestatic 111, 3) := dk_184 0 111 (dk_at dksX3_isLetter_0 5 rfl rfl)
theorem dX3_isLetter_8 : decode cX3_isLetter 8 = .ok (.ireturn, 1) := dk_172 (dk_at dksX3_isLetter_0 8 rfl rfl)
abbrev cX3_isBlank : ByteArray := prog_16_method_29_code
def yX3_isBlank : MethodName := ⟨RX3, "isBlank", "(I)Z"⟩
def dkwX3_isBlank_0 : List UInt8 := [26, 16, 32, 159, 0, 9, 26, 16, 10, 160, 0, 7, 4, 167, 0, 4, 3, 172]
abbrev dktX3_isBlank_0 : List UInt8 := dkwX3_isBlank_0 ++ []
theorem dksX3_isBlank_0 : cX3_isBlank.data.toList.drop 0 = dktX3_isBlank_0 := by decide +kernel
theorem dX3_isBlank_0 : decode cX3_isBlank 0 = .ok (.iload_n 0, 1) := dk_26 (dk_at dksX3_isBlank_0 0 rfl rfl)
theorem dX3_isBlank_1 : decode cX3_isBlank 1 = .ok (.bipush 32, 2) := dk_16 32 (dk_at dksX3_isBlank_0 1 rfl rfl)
theorem dX3_isBlank_3 : decode cX3_isBlank 3 = .ok (.if_icmp .eq 9, 3) := dk_159 0 9 (dk_at dksX3_isBlank_0 3 rfl rfl)
theorem dX3_isBlank_6 : decode cX3_isBlank 6 = .ok (.iload_n 0, 1) := dk_26 (dk_at dksX3_isBlank_0 6 rfl rfl)
theorem dX3_isBlank_7 : decode cX3_isBlank 7 = .ok (.bipush 10, 2) := dk_16 10 (dk_at dksX3_isBlank_0 7 rfl rfl)
theorem dX3_isBlank_9 : decode cX3_isBlank 9 = .ok (.if_icmp .ne 7, 3) := dk_160 0 7 (dk_at dksX3_isBlank_0 9 rfl rfl)
theorem dX3_isBlank_12 : decode cX3_isBlank 12 = .ok (.iconst 1, 1) := dk_4 (dk_at dksX3_isBlank_0 12 rfl rfl)
theorem dX3_isBlank_13 : decode cX3_isBlank 13 = .ok (.goto 4, 3) := dk_167 0 4 (dk_at dksX3_isBlank_0 13 rfl rfl)
theorem dX3_isBlank_16 : decode cX3_isBlank 16 = .ok (.iconst 0, 1) := dk_3 (dk_at dksX3_isBlank_0 16 rfl rfl)
theorem dX3_isBlank_17 : decode cX3_isBlank 17 = .ok (.ireturn, 1) := dk_172 (dk_at dksX3_isBlank_0 17 rfl rfl)
abbrev cX3_beginEdition : ByteArray := prog_16_method_33_code
def yX3_beginEdition : MethodName := ⟨RX3, "beginEdition", "(II)I"⟩
def dkwX3_beginEdition_2 : List UInt8 := [92, 46, 4, 96, 79, 29, 172]
abbrev dktX3_beginEdition_2 : List UInt8 := dkwX3_beginEdition_2 ++ []
def dkwX3_beginEdition_1 : List UInt8 := [180, 0, 7, 21, 4, 4, 96, 27, 79, 42, 180, 0, 7, 21, 4, 5, 96, 28, 79, 42, 180, 0, 7, 3]
abbrev dktX3_beginEdition_1 : List UInt8 := dkwX3_beginEdition_1 ++ dktX3_beginEdition_2
def dkwX3_beginEdition_0 : List UInt8 := [42, 182, 0, 107, 62, 8, 6, 29, 104, 96, 54, 4, 42, 180, 0, 7, 21, 4, 3, 96, 3, 79, 42]
abbrev dktX3_beginEdition_0 : List UInt8 := dkwX3_beginEdition_0 ++ dktX3_beginEdition_1
theorem dksX3_beginEdition_0 : cX3_beginEdition.data.toList.drop 0 = dktX3_beginEdition_0 := by decide +kernel
theorem dksX3_beginEdition_1 : cX3_beginEdition.data.toList.drop 23 = dktX3_beginEdition_1 := dk_seg dksX3_beginEdition_0 23 rfl rfl
theorem dksX3_beginEdition_2 : cX3_beginEdition.data.toList.drop 47 = dktX3_beginEdition_2 := dk_seg dksX3_beginEdition_1 24 rfl rfl
theorem dX3_beginEdition_0 : decode cX3_beginEdition 0 = .ok (.aload_n 0, 1) := dk_42 (dk_at dksX3_beginEdition_0 0 rfl rfl)
theorem dX3_beginEdition_1 : decode cX3_beginEdition 1 = .ok (.invokevirtual 107, 3) := dk_182 0 107 (dk_at dksX3_beginEdition_0 1 rfl rfl)
theorem dX3_beginEdition_4 : decode cX3_beginEdition 4 = .ok (.istore_n 3, 1) := dk_62 (dk_at dksX3_beginEdition_0 4 rfl rfl)
theorem dX3_beginEdition_5 : decode cX3_beginEdition 5 = .ok (.iconst 5, 1) := dk_8 (dk_at dksX3_beginEdition_0 5 rfl rfl)
theorem dX3_beginEdition_6 : decode cX3_beginEdition 6 = .ok (.iconst 3, 1) := dk_6 (dk_at dksX3_beginEdition_0 6 rfl rfl)
theorem dX3_beginEdition_7 : decode cX3_beginEdition 7 = .ok (.iload_n 3, 1) := dk_29 (dk_at dksX3_beginEdition_0 7 rfl rfl)
theorem dX3_beginEdition_8 : decode cX3_beginEdition 8 = .ok (.imul, 1) := dk_104 (dk_at dksX3_beginEdition_0 8 rfl rfl)
theorem dX3_beginEdition_9 : decode cX3_beginEdition 9 = .ok (.iadd, 1) := dk_96 (dk_at dksX3_beginEdition_0 9 rfl rfl)
theorem dX3_beginEdition_10 : decode cX3_beginEdition 10 = .ok (.istore 4, 2) := dk_54 4 (dk_at dksX3_beginEdition_0 10 rfl rfl)
theorem dX3_beginEdition_12 : decode cX3_beginEdition 12 = .ok (.aload_n 0, 1) := dk_42 (dk_at dksX3_beginEdition_0 12 rfl rfl)
theorem dX3_beginEdition_13 : decode cX3_beginEdition 13 = .ok (.getfield 7, 3) := dk_180 0 7 (dk_at dksX3_beginEdition_0 13 rfl rfl)
theorem dX3_beginEdition_16 : decode cX3_beginEdition 16 = .ok (.iload 4, 2) := dk_21 4 (dk_at dksX3_beginEdition_0 16 rfl rfl)
theorem dX3_beginEdition_18 : decode cX3_beginEdition 18 = .ok (.iconst 0, 1) := dk_3 (dk_at dksX3_beginEdition_0 18 rfl rfl)
theorem dX3_beginEdition_19 : decode cX3_beginEdition 19 = .ok (.iadd, 1) := dk_96 (dk_at dksX3_beginEdition_0 19 rfl rfl)
theorem dX3_beginEdition_20 : decode cX3_beginEdition 20 = .ok (.iconst 0, 1) := dk_3 (dk_at dksX3_beginEdition_0 20 rfl rfl)
theorem dX3_beginEdition_21 : decode cX3_beginEdition 21 = .ok (.iastore, 1) := dk_79 (dk_at dksX3_beginEdition_0 21 rfl rfl)
theorem dX3_beginEdition_22 : decode cX3_beginEdition 22 = .ok (.aload_n 0, 1) := dk_42 (dk_at dksX3_beginEdition_0 22 rfl rfl)
theorem dX3_beginEdition_23 : decode cX3_beginEdition 23 = .ok (.getfield 7, 3) := dk_180 0 7 (dk_at dksX3_beginEdition_1 0 rfl rfl)
theorem dX3_beginEdition_26 : decode cX3_beginEdition 26 = .ok (.iload 4, 2) := dk_21 4 (dk_at dksX3_beginEdition_1 3 rfl rfl)
theorem dX3_beginEdition_28 : decode cX3_beginEdition 28 = .ok (.iconst 1, 1) := dk_4 (dk_at dksX3_beginEdition_1 5 rfl rfl)
theorem dX3_beginEdition_29 : decode cX3_beginEdition 29 = .ok (.iadd, 1) := dk_96 (dk_at dksX3_beginEdition_1 6 rfl rfl)
theorem dX3_beginEdition_30 : decode cX3_beginEdition 30 = .ok (.iload_n 1, 1) := dk_27 (dk_at dksX3_beginEdition_1 7 rfl rfl)
theorem dX3_beginEdition_31 : decode cX3_beginEdition 31 = .ok (.iastore, 1) := dk_79 (dk_at dksX3_beginEdition_1 8 rfl rfl)
theorem dX3_beginEdition_32 : decode cX3_beginEdition 32 = .ok (.aload_n 0, 1) := dk_42 (dk_at dksX3_beginEdition_1 9 rfl rfl)
theorem dX3_beginEdition_33 : decode cX3_beginEdition 33 = .ok (.getfield 7, 3) := dk_180 0 7 (dk_at dksX3_beginEdition_1 10 rfl rfl)
theorem dX3_beginEdition_36 : decode cX3_beginEdition 36 = .ok (.iload 4, 2) := dk_21 4 (dk_at dksX3_beginEdition_1 13 rfl rfl)
theorem dX3_beginEdition_38 : decode cX3_beginEdition 38 = .ok (.iconst 2, 1) := dk_5 (dk_at dksX3_beginEdition_1 15 rfl rfl)
theorem dX3_beginEdition_39 : decode cX3_beginEdition 39 = .ok (.iadd, 1) := dk_96 (dk_at dksX3_beginEdition_1 16 rfl rfl)
theorem dX3_beginEdition_40 : decode cX3_beginEdition 40 = .ok (.iload_n 2, 1) := dk_28 (dk_at dksX3_beginEdition_1 17 rfl rfl)
theorem dX3_beginEdition_41 : decode cX3_beginEdition 41 = .ok (.iastore, 1) := dk_79 (dk_at dksX3_beginEdition_1 18 rfl rfl)
theorem dX3_beginEdition_42 : decode cX3_beginEdition 42 = .ok (.aload_n 0, 1) := dk_42 (dk_at dksX3_beginEdition_1 19 rfl rfl)
theorem dX3_beginEdition_43 : decode cX3_beginEdition 43 = .ok (.getfield 7, 3) := dk_180 0 7 (dk_at dksX3_beginEdition_1 20 rfl rfl)
theorem dX3_beginEdition_46 : decode cX3_beginEdition 46 = .ok (.iconst 0, 1) := dk_3 (dk_at dksX3_beginEdition_1 23 rfl rfl)
theorem dX3_beginEdition_47 : decode cX3_beginEdition 47 = .ok (.dup2, 1) := dk_92 (dk_at dksX3_beginEdition_2 0 rfl rfl)
theorem dX3_beginEdition_48 : decode cX3_beginEdition 48 = .ok (.iaload, 1) := dk_46 (dk_at dksX3_beginEdition_2 1 rfl rfl)
theorem dX3_beginEdition_49 : decode cX3_beginEdition 49 = .ok (.iconst 1, 1) := dk_4 (dk_at dksX3_beginEdition_2 2 rfl rfl)
theorem dX3_beginEdition_50 : decode cX3_beginEdition 50 = .ok (.iadd, 1) := dk_96 (dk_at dksX3_beginEdition_2 3 rfl rfl)
theorem dX3_beginEdition_51 : decode cX3_beginEdition 51 = .ok (.iastore, 1) := dk_79 (dk_at dksX3_beginEdition_2 4 rfl rfl)
theorem dX3_beginEdition_52 : decode cX3_beginEdition 52 = .ok (.iload_n 3, 1) := dk_29 (dk_at dksX3_beginEdition_2 5 rfl rfl)
theorem dX3_beginEdition_53 : decode cX3_beginEdition 53 = .ok (.ireturn, 1) := dk_172 (dk_at dksX3_beginEdition_2 6 rfl rfl)
abbrev cX3_appendWord : ByteArray := prog_16_method_34_code
def yX3_appendWord : MethodName := ⟨RX3, "appendWord", "(IJZ)V"⟩
def dkwX3_appendWord_2 : List UInt8 := [96, 3, 96, 92, 46, 4, 96, 79, 177]
abbrev dktX3_appendWord_2 : List UInt8 := dkwX3_appendWord_2 ++ []
def dkwX3_appendWord_1 : List UInt8 := [16, 14, 21, 5, 96, 21, 4, 153, 0, 7, 4, 167, 0, 4, 3, 79, 42, 180, 0, 7, 8, 6, 27, 104]
abbrev dktX3_appendWord_1 : List UInt8 := dkwX3_appendWord_1 ++ dktX3_appendWord_2
def dkwX3_appendWord_0 : List UInt8 := [27, 42, 27, 182, 0, 119, 184, 0, 129, 54, 5, 42, 180, 0, 19, 21, 5, 32, 80, 42, 180, 0, 7]
abbrev dktX3_appendWord_0 : List UInt8 := dkwX3_appendWord_0 ++ dktX3_appendWord_1
theorem dksX3_appendWord_0 : cX3_appendWord.data.toList.drop 0 = dktX3_appendWord_0 := by decide +kernel
theorem dksX3_appendWord_1 : cX3_appendWord.data.toList.drop 23 = dktX3_appendWord_1 := dk_seg dksX3_appendWord_0 23 rfl rfl
theorem dksX3_appendWord_2 : cX3_appendWord.data.toList.drop 47 = dktX3_appendWord_2 := dk_seg dksX3_appendWord_1 24 rfl rfl
theorem dX3_appendWord_0 : decode cX3_appendWord 0 = .ok (.iload_n 1, 1) := dk_27 (dk_at dksX3_appendWord_0 0 rfl rfl)
theorem dX3_appendWord_1 : decode cX3_appendWord 1 = .ok (.aload_n 0, 1) := dk_42 (dk_at dksX3_appendWord_0 1 rfl rfl)
theorem dX3_appendWord_2 : decode cX3_appendWord 2 = .ok (.iload_n 1, 1) := dk_27 (dk_at dksX3_appendWord_0 2 rfl rfl)
theorem dX3_appendWord_3 : decode cX3_appendWord 3 = .ok (.invokevirtual 119, 3) := dk_182 0 119 (dk_at dksX3_appendWord_0 3 rfl rfl)
theorem dX3_appendWord_6 : decode cX3_appendWord 6 = .ok (.invokestatic 129, 3) := dk_184 0 129 (dk_at dksX3_appendWord_0 6 rfl rfl)
theorem dX3_appendWord_9 : decode cX3_appendWord 9 = .ok (.istore 5, 2) := dk_54 5 (dk_at dksX3_appendWord_0 9 rfl rfl)
theorem dX3_appendWord_11 : decode cX3_appendWord 11 = .ok (.aload_n 0, 1) := dk_42 (dk_at dksX3_appendWord_0 11 rfl rfl)
theorem dX3_appendWord_12 : decode cX3_appendWord 12 = .ok (.getfield 19, 3) := dk_180 0 19 (dk_at dksX3_appendWord_0 12 rfl rfl)
theorem dX3_appendWord_15 : decode cX3_appendWord 15 = .ok (.iload 5, 2) := dk_21 5 (dk_at dksX3_appendWord_0 15 rfl rfl)
theorem dX3_appendWord_17 : decode cX3_appendWord 17 = .ok (.lload_n 2, 1) := dk_32 (dk_at dksX3_appendWord_0 17 rfl rfl)
theorem dX3_appendWord_18 : decode cX3_appendWord 18 = .ok (.lastore, 1) := dk_80 (dk_at dksX3_appendWord_0 18 rfl rfl)
theorem dX3_appendWord_19 : decode cX3_appendWord 19 = .ok (.aload_n 0, 1) := dk_42 (dk_at dksX3_appendWord_0 19 rfl rfl)
theorem dX3_appendWord_20 : decode cX3_appendWord 20 = .ok (.getfield 7, 3) := dk_180 0 7 (dk_at dksX3_appendWord_0 20 rfl rfl)
theorem dX3_appendWord_23 : decode cX3_appendWord 23 = .ok (.bipush 14, 2) := dk_16 14 (dk_at dksX3_appendWord_1 0 rfl rfl)
theorem dX3_appendWord_25 : decode cX3_appendWord 25 = .ok (.iload 5, 2) := dk_21 5 (dk_at dksX3_appendWord_1 2 rfl rfl)
theorem dX3_appendWord_27 : decode cX3_appendWord 27 = .ok (.iadd, 1) := dk_96 (dk_at dksX3_appendWord_1 4 rfl rfl)
theorem dX3_appendWord_28 : decode cX3_appendWord 28 = .ok (.iload 4, 2) := dk_21 4 (dk_at dksX3_appendWord_1 5 rfl rfl)
theorem dX3_appendWord_30 : decode cX3_appendWord 30 = .ok (.ifCond .eq 7, 3) := dk_153 0 7 (dk_at dksX3_appendWord_1 7 rfl rfl)
theorem dX3_appendWord_33 : decode cX3_appendWord 33 = .ok (.iconst 1, 1) := dk_4 (dk_at dksX3_appendWord_1 10 rfl rfl)
theorem dX3_appendWord_34 : decode cX3_appendWord 34 = .ok (.goto 4, 3) := dk_167 0 4 (dk_at dksX3_appendWord_1 11 rfl rfl)
theorem dX3_appendWord_37 : decode cX3_appendWord 37 = .ok (.iconst 0, 1) := dk_3 (dk_at dksX3_appendWord_1 14 rfl rfl)
theorem dX3_appendWord_38 : decode cX3_appendWord 38 = .ok (.iastore, 1) := dk_79 (dk_at dksX3_appendWord_1 15 rfl rfl)
theorem dX3_appendWord_39 : decode cX3_appendWord 39 = .ok (.aload_n 0, 1) := dk_42 (dk_at dksX3_appendWord_1 16 rfl rfl)
theorem dX3_appendWord_40 : decode cX3_appendWord 40 = .ok (.getfield 7, 3) := dk_180 0 7 (dk_at dksX3_appendWord_1 17 rfl rfl)
theorem dX3_appendWord_43 : decode cX3_appendWord 43 = .ok (.iconst 5, 1) := dk_8 (dk_at dksX3_appendWord_1 20 rfl rfl)
theorem dX3_appendWord_44 : decode cX3_appendWord 44 = .ok (.iconst 3, 1) := dk_6 (dk_at dksX3_appendWord_1 21 rfl rfl)
theorem dX3_appendWord_45 : decode cX3_appendWord 45 = .ok (.iload_n 1, 1) := dk_27 (dk_at dksX3_appendWord_1 22 rfl rfl)
theorem dX3_appendWord_46 : decode cX3_appendWord 46 = .ok (.imul, 1) := dk_104 (dk_at dksX3_appendWord_1 23 rfl rfl)
theorem dX3_appendWord_47 : decode cX3_appendWord 47 = .ok (.iadd, 1) := dk_96 (dk_at dksX3_appendWord_2 0 rfl rfl)
theorem dX3_appendWord_48 : decode cX3_appendWord 48 = .ok (.iconst 0, 1) := dk_3 (dk_at dksX3_appendWord_2 1 rfl rfl)
theorem dX3_appendWord_49 : decode cX3_appendWord 49 = .ok (.iadd, 1) := dk_96 (dk_at dksX3_appendWord_2 2 rfl rfl)
theorem dX3_appendWord_50 : decode cX3_appendWord 50 = .ok (.dup2, 1) := dk_92 (dk_at dksX3_appendWord_2 3 rfl rfl)
theorem dX3_appendWord_51 : decode cX3_appendWord 51 = .ok (.iaload, 1) := dk_46 (dk_at dksX3_appendWord_2 4 rfl rfl)
theorem dX3_appendWord_52 : decode cX3_appendWord 52 = .ok (.iconst 1, 1) := dk_4 (dk_at dksX3_appendWord_2 5 rfl rfl)
theorem dX3_appendWord_53 : decode cX3_appendWord 53 = .ok (.iadd, 1) := dk_96 (dk_at dksX3_appendWord_2 6 rfl rfl)
theorem dX3_appendWord_54 : decode cX3_appendWord 54 = .ok (.iastore, 1) := dk_79 (dk_at dksX3_appendWord_2 7 rfl rfl)
theorem dX3_appendWord_55 : decode cX3_appendWord 55 = .ok (.return_, 1) := dk_177 (dk_at dksX3_appendWord_2 8 rfl rfl)
abbrev cX3_setLayout : ByteArray := prog_16_method_39_code
def yX3_setLayout : MethodName := ⟨RX3, "setLayout", "(III)I"⟩
def dkwX3_setLayout_2 : List UInt8 := [180, 0, 7, 8, 6, 27, 104, 96, 5, 96, 29, 79, 42, 27, 182, 0, 191, 42, 27, 182, 0, 195, 172]
abbrev dktX3_setLayout_2 : List UInt8 := dkwX3_setLayout_2 ++ []
def dkwX3_setLayout_1 : List UInt8 := [154, 0, 9, 42, 5, 182, 0, 141, 172, 42, 180, 0, 7, 8, 6, 27, 104, 96, 4, 96, 28, 79, 42]
abbrev dktX3_setLayout_1 : List UInt8 := dkwX3_setLayout_1 ++ dktX3_setLayout_2
def dkwX3_setLayout_0 : List UInt8 := [42, 3, 181, 0, 100, 42, 27, 182, 0, 115, 154, 0, 9, 42, 4, 182, 0, 141, 172, 28, 29, 184, 0, 167]
abbrev dktX3_setLayout_0 : List UInt8 := dkwX3_setLayout_0 ++ dktX3_setLayout_1
theorem dksX3_setLayout_0 : cX3_setLayout.data.toList.drop 0 = dktX3_setLayout_0 := by decide +kernel
theorem dksX3_setLayout_1 : cX3_setLayout.data.toList.drop 24 = dktX3_setLayout_1 := dk_seg dksX3_setLayout_0 24 rfl rfl
theorem dksX3_setLayout_2 : cX3_setLayout.data.toList.drop 47 = dktX3_setLayout_2 := dk_seg dksX3_setLayout_1 23 rfl rfl
theorem dX3_setLayout_0 : decode cX3_setLayout 0 = .ok (.aload_n 0, 1) := dk_42 (dk_at dksX3_setLayout_0 0 rfl rfl)
theorem dX3_setLayout_1 : decode cX3_setLayout 1 = .ok (.iconst 0, 1) := dk_3 (dk_at dksX3_setLayout_0 1 rfl rfl)
theorem dX3_setLayout_2 : decode cX3_setLayout 2 = .ok (.putfield 100, 3) := dk_181 0 100 (dk_at dksX3_setLayout_0 2 rfl rfl)
theorem dX3_setLayout_5 : decode cX3_setLayout 5 = .ok (.aload_n 0, 1) := dk_42 (dk_at dksX3_setLayout_0 5 rfl rfl)
theorem dX3_setLayout_6 : decode cX3_setLayout 6 = .ok (.iload_n 1, 1) := dk_27 (dk_at dksX3_setLayout_0 6 rfl rfl)
theorem dX3_setLayout_7 : decode cX3_setLayout 7 = .ok (.invokevirtual 115, 3) := dk_182 0 115 (dk_at dksX3_setLayout_0 7 rfl rfl)
theorem dX3_setLayout_10 : decode cX3_setLayout 10 = .ok (.ifCond .ne 9, 3) := dk_154 0 9 (dk_at dksX3_setLayout_0 10 rfl rfl)
theorem dX3_setLayout_13 : decode cX3_setLayout 13 = .ok (.aload_n 0, 1) := dk_42 (dk_at dksX3_setLayout_0 13 rfl rfl)
theorem dX3_setLayout_14 : decode cX3_setLayout 14 = .ok (.iconst 1, 1) := dk_4 (dk_at dksX3_setLayout_0 14 rfl rfl)
theorem dX3_setLayout_15 : decode cX3_setLayout 15 = .ok (.invokevirtual 141, 3) := dk_182 0 141 (dk_at dksX3_setLayout_0 15 rfl rfl)
theorem dX3_setLayout_18 : decode cX3_setLayout 18 = .ok (.ireturn, 1) := dk_172 (dk_at dksX3_setLayout_0 18 rfl rfl)
theorem dX3_setLayout_19 : decode cX3_setLayout 19 = .ok (.iload_n 2, 1) := dk_28 (dk_at dksX3_setLayout_0 19 rfl rfl)
theorem dX3_setLayout_20 : decode cX3_setLayout 20 = .ok (.iload_n 3, 1) := dk_29 (dk_at dksX3_setLayout_0 20 rfl rfl)
theorem dX3_setLayout_21 : decode cX3_setLayout 21 = .ok (.invokestatic 167, 3) := dk_184 0 167 (dk_at dksX3_setLayout_0 21 rfl rfl)
theorem dX3_setLayout_24 : decode cX3_setLayout 24 = .ok (.ifCond .ne 9, 3) := dk_154 0 9 (dk_at dksX3_setLayout_1 0 rfl rfl)
theorem dX3_setLayout_27 : decode cX3_setLayout 27 = .ok (.aload_n 0, 1) := dk_42 (dk_at dksX3_setLayout_1 3 rfl rfl)
theorem dX3_setLayout_28 : decode cX3_setLayout 28 = .ok (.iconst 2, 1) := dk_5 (dk_at dksX3_setLayout_1 4 rfl rfl)
theorem dX3_setLayout_29 : decode cX3_setLayout 29 = .ok (.invokevirtual 141, 3) := dk_182 0 141 (dk_at dksX3_setLayout_1 5 rfl rfl)
theorem dX3_setLayout_32 : decode cX3_setLayout 32 = .ok (.ireturn, 1) := dk_172 (dk_at dksX3_setLayout_1 8 rfl rfl)
theorem dX3_setLayout_33 : decode cX3_setLayout 33 = .ok (.aload_n 0, 1) := dk_42 (dk_at dksX3_setLayout_1 9 rfl rfl)
theorem dX3_setLayout_34 : decode cX3_setLayout 34 = .ok (.getfield 7, 3) := dk_180 0 7 (dk_at dksX3_setLayout_1 10 rfl rfl)
theorem dX3_setLayout_37 : decode cX3_setLayout 37 = .ok (.iconst 5, 1) := dk_8 (dk_at dksX3_setLayout_1 13 rfl rfl)
theorem dX3_setLayout_38 : decode cX3_setLayout 38 = .ok (.iconst 3, 1) := dk_6 (dk_at dksX3_setLayout_1 14 rfl rfl)
theorem dX3_setLayout_39 : decode cX3_setLayout 39 = .ok (.iload_n 1, 1) := dk_27 (dk_at dksX3_setLayout_1 15 rfl rfl)
theorem dX3_setLayout_40 : decode cX3_setLayout 40 = .ok (.imul, 1) := dk_104 (dk_at dksX3_setLayout_1 16 rfl rfl)
theorem dX3_setLayout_41 : decode cX3_setLayout 41 = .ok (.iadd, 1) := dk_96 (dk_at dksX3_setLayout_1 17 rfl rfl)
theorem dX3_setLayout_42 : decode cX3_setLayout 42 = .ok (.iconst 1, 1) := dk_4 (dk_at dksX3_setLayout_1 18 rfl rfl)
theorem dX3_setLayout_43 : decode cX3_setLayout 43 = .ok (.iadd, 1) := dk_96 (dk_at dksX3_setLayout_1 19 rfl rfl)
theorem dX3_setLayout_44 : decode cX3_setLayout 44 = .ok (.iload_n 2, 1) := dk_28 (dk_at dksX3_setLayout_1 20 rfl rfl)
theorem dX3_setLayout_45 : decode cX3_setLayout 45 = .ok (.iastore, 1) := dk_79 (dk_at dksX3_setLayout_1 21 rfl rfl)
theorem dX3_setLayout_46 : decode cX3_setLayout 46 = .ok (.aload_n 0, 1) := dk_42 (dk_at dksX3_setLayout_1 22 rfl rfl)
theorem dX3_setLayout_47 : decode cX3_setLayout 47 = .ok (.getfield 7, 3) := dk_180 0 7 (dk_at dksX3_setLayout_2 0 rfl rfl)
theorem dX3_setLayout_50 : decode cX3_setLayout 50 = .ok (.iconst 5, 1) := dk_8 (dk_at dksX3_setLayout_2 3 rfl rfl)
theorem dX3_setLayout_51 : decode cX3_setLayout 51 = .ok (.iconst 3, 1) := dk_6 (dk_at dksX3_setLayout_2 4 rfl rfl)
theorem dX3_setLayout_52 : decode cX3_setLayout 52 = .ok (.iload_n 1, 1) := dk_27 (dk_at dksX3_setLayout_2 5 rfl rfl)
theorem dX3_setLayout_53 : decode cX3_setLayout 53 = .ok (.imul, 1) := dk_104 (dk_at dksX3_setLayout_2 6 rfl rfl)
theorem dX3_setLayout_54 : decode cX3_setLayout 54 = .ok (.iadd, 1) := dk_96 (dk_at dksX3_setLayout_2 7 rfl rfl)
theorem dX3_setLayout_55 : decode cX3_setLayout 55 = .ok (.iconst 2, 1) := dk_5 (dk_at dksX3_setLayout_2 8 rfl rfl)
theorem dX3_setLayout_56 : decode cX3_setLayout 56 = .ok (.iadd, 1) := dk_96 (dk_at dksX3_setLayout_2 9 rfl rfl)
theorem dX3_setLayout_57 : decode cX3_setLayout 57 = .ok (.iload_n 3, 1) := dk_29 (dk_at dksX3_setLayout_2 10 rfl rfl)
theorem dX3_setLayout_58 : decode cX3_setLayout 58 = .ok (.iastore, 1) := dk_79 (dk_at dksX3_setLayout_2 11 rfl rfl)
theorem dX3_setLayout_59 : decode cX3_setLayout 59 = .ok (.aload_n 0, 1) := dk_42 (dk_at dksX3_setLayout_2 12 rfl rfl)
theorem dX3_setLayout_60 : decode cX3_setLayout 60 = .ok (.iload_n 1, 1) := dk_27 (dk_at dksX3_setLayout_2 13 rfl rfl)
theorem dX3_setLayout_61 : decode cX3_setLayout 61 = .ok (.invokevirtual 191, 3) := dk_182 0 191 (dk_at dksX3_setLayout_2 14 rfl rfl)
theorem dX3_setLayout_64 : decode cX3_setLayout 64 = .ok (.aload_n 0, 1) := dk_42 (dk_at dksX3_setLayout_2 17 rfl rfl)
theorem dX3_setLayout_65 : decode cX3_setLayout 65 = .ok (.iload_n 1, 1) := dk_27 (dk_at dksX3_setLayout_2 18 rfl rfl)
theorem dX3_setLayout_66 : decode cX3_setLayout 66 = .ok (.invokevirtual 195, 3) := dk_182 0 195 (dk_at dksX3_setLayout_2 19 rfl rfl)
theorem dX3_setLayout_69 : decode cX3_setLayout 69 = .ok (.ireturn, 1) := dk_172 (dk_at dksX3_setLayout_2 22 rfl rfl)
abbrev cX3_isEdition : ByteArray := prog_16_method_14_code
def yX3_isEdition : MethodName := ⟨RX3, "isEdition", "(I)Z"⟩
def dkwX3_isEdition_0 : List UInt8 := [27, 3, 42, 182, 0, 107, 4, 100, 184, 0, 111, 172]
abbrev dktX3_isEdition_0 : List UInt8 := dkwX3_isEdition_0 ++ []
theorem dksX3_isEdition_0 : cX3_isEdition.data.toList.drop 0 = dktX3_isEdition_0 := by decide +kernel
theorem dX3_isEdition_0 : decode cX3_isEdition 0 = .ok (.iload_n 1, 1) := dk_27 (dk_at dksX3_isEdition_0 0 rfl rfl)
theorem dX3_isEdition_1 : decode cX3_isEdition 1 = .ok (.iconst 0, 1) := dk_3 (dk_at dksX3_isEdition_0 1 rfl rfl)
theorem dX3_isEdition_2 : decode cX3_isEdition 2 = .ok (.aload_n 0, 1) := dk_42 (dk_at dksX3_isEdition_0 2 rfl rfl)
theorem dX3_isEdition_3 : decode cX3_isEdition 3 = .ok (.invokevirtual 107, 3) := dk_182 0 107 (dk_at dksX3_isEdition_0 3 rfl rfl)
theorem dX3_isEdition_6 : decode cX3_isEdition 6 = .ok (.iconst 1, 1) := dk_4 (dk_at dksX3_isEdition_0 6 rfl rfl)
theorem dX3_isEdition_7 : decode cX3_isEdition 7 = .ok (.isub, 1) := dk_100 (dk_at dksX3_isEdition_0 7 rfl rfl)
theorem dX3_isEdition_8 : decode cX3_isEdition 8 = .ok (.invokestatic 111, 3) := dk_184 0 111 (dk_at dksX3_isEdition_0 8 rfl rfl)
theorem dX3_isEdition_11 : decode cX3_isEdition 11 = .ok (.ireturn, 1) := dk_172 (dk_at dksX3_isEdition_0 11 rfl rfl)
abbrev cX3_layOut : ByteArray := prog_16_method_36_code
def yX3_layOut : MethodName := ⟨RX3, "layOut", "(I)V"⟩
def dkwX3_layOut_4 : List UInt8 := [21, 5, 21, 4, 79, 29, 21, 6, 96, 62, 132, 5, 1, 167, 255, 159, 177]
abbrev dktX3_layOut_4 : List UInt8 := dkwX3_layOut_4 ++ []
def dkwX3_layOut_3 : List UInt8 := [132, 4, 1, 42, 180, 0, 39, 21, 5, 28, 79, 42, 180, 0, 42, 21, 5, 29, 79, 42, 180, 0, 45]
abbrev dktX3_layOut_3 : List UInt8 := dkwX3_layOut_3 ++ dktX3_layOut_4
def dkwX3_layOut_2 : List UInt8 := [42, 27, 4, 182, 0, 103, 164, 0, 14, 132, 2, 1, 3, 62, 3, 54, 4, 167, 0, 9, 132, 3, 1]
abbrev dktX3_layOut_2 : List UInt8 := dkwX3_layOut_2 ++ dktX3_layOut_3
def dkwX3_layOut_1 : List UInt8 := [182, 0, 181, 184, 0, 134, 54, 6, 42, 27, 21, 5, 182, 0, 185, 154, 0, 18, 29, 4, 96, 21, 6, 96]
abbrev dktX3_layOut_1 : List UInt8 := dkwX3_layOut_1 ++ dktX3_layOut_2
def dkwX3_layOut_0 : List UInt8 := [2, 61, 3, 62, 3, 54, 4, 3, 54, 5, 21, 5, 42, 27, 182, 0, 119, 162, 0, 93, 42, 27, 21, 5]
abbrev dktX3_layOut_0 : List UInt8 := dkwX3_layOut_0 ++ dktX3_layOut_1
theorem dksX3_layOut_0 : cX3_layOut.data.toList.drop 0 = dktX3_layOut_0 := by decide +kernel
theorem dksX3_layOut_1 : cX3_layOut.data.toList.drop 24 = dktX3_layOut_1 := dk_seg dksX3_layOut_0 24 rfl rfl
theorem dksX3_layOut_2 : cX3_layOut.data.toList.drop 48 = dktX3_layOut_2 := dk_seg dksX3_layOut_1 24 rfl rfl
theorem dksX3_layOut_3 : cX3_layOut.data.toList.drop 71 = dktX3_layOut_3 := dk_seg dksX3_layOut_2 23 rfl rfl
theorem dksX3_layOut_4 : cX3_layOut.data.toList.drop 94 = dktX3_layOut_4 := dk_seg dksX3_layOut_3 23 rfl rfl
theorem dX3_layOut_0 : decode cX3_layOut 0 = .ok (.iconst (-1), 1) := dk_2 (dk_at dksX3_layOut_0 0 rfl rfl)
theorem dX3_layOut_1 : decode cX3_layOut 1 = .ok (.istore_n 2, 1) := dk_61 (dk_at dksX3_layOut_0 1 rfl rfl)
theorem dX3_layOut_2 : decode cX3_layOut 2 = .ok (.iconst 0, 1) := dk_3 (dk_at dksX3_layOut_0 2 rfl rfl)
theorem dX3_layOut_3 : decode cX3_layOut 3 = .ok (.istore_n 3, 1) := dk_62 (dk_at dksX3_layOut_0 3 rfl rfl)
theorem dX3_layOut_4 : decode cX3_layOut 4 = .ok (.iconst 0, 1) := dk_3 (dk_at dksX3_layOut_0 4 rfl rfl)
theorem dX3_layOut_5 : decode cX3_layOut 5 = .ok (.istore 4, 2) := dk_54 4 (dk_at dksX3_layOut_0 5 rfl rfl)
theorem dX3_layOut_7 : decode cX3_layOut 7 = .ok (.iconst 0, 1) := dk_3 (dk_at dksX3_layOut_0 7 rfl rfl)
theorem dX3_layOut_8 : decode cX3_layOut 8 = .ok (.istore 5, 2) := dk_54 5 (dk_at dksX3_layOut_0 8 rfl rfl)
theorem dX3_layOut_10 : decode cX3_layOut 10 = .ok (.iload 5, 2) := dk_21 5 (dk_at dksX3_layOut_0 10 rfl rfl)
theorem dX3_layOut_12 : decode cX3_layOut 12 = .ok (.aload_n 0, 1) := dk_42 (dk_at dksX3_layOut_0 12 rfl rfl)
theorem dX3_layOut_13 : decode cX3_layOut 13 = .ok (.iload_n 1, 1) := dk_27 (dk_at dksX3_layOut_0 13 rfl rfl)
theorem dX3_layOut_14 : decode cX3_layOut 14 = .ok (.invokevirtual 119, 3) := dk_182 0 119 (dk_at dksX3_layOut_0 14 rfl rfl)
theorem dX3_layOut_17 : decode cX3_layOut 17 = .ok (.if_icmp .ge 93, 3) := dk_162 0 93 (dk_at dksX3_layOut_0 17 rfl rfl)
theorem dX3_layOut_20 : decode cX3_layOut 20 = .ok (.aload_n 0, 1) := dk_42 (dk_at dksX3_layOut_0 20 rfl rfl)
theorem dX3_layOut_21 : decode cX3_layOut 21 = .ok (.iload_n 1, 1) := dk_27 (dk_at dksX3_layOut_0 21 rfl rfl)
theorem dX3_layOut_22 : decode cX3_layOut 22 = .ok (.iload 5, 2) := dk_21 5 (dk_at dksX3_layOut_0 22 rfl rfl)
theorem dX3_layOut_24 : decode cX3_layOut 24 = .ok (.invokevirtual 181, 3) := dk_182 0 181 (dk_at dksX3_layOut_1 0 rfl rfl)
theorem dX3_layOut_27 : decode cX3_layOut 27 = .ok (.invokestatic 134, 3) := dk_184 0 134 (dk_at dksX3_layOut_1 3 rfl rfl)
theorem dX3_layOut_30 : decode cX3_layOut 30 = .ok (.istore 6, 2) := dk_54 6 (dk_at dksX3_layOut_1 6 rfl rfl)
theorem dX3_layOut_32 : decode cX3_layOut 32 = .ok (.aload_n 0, 1) := dk_42 (dk_at dksX3_layOut_1 8 rfl rfl)
theorem dX3_layOut_33 : decode cX3_layOut 33 = .ok (.iload_n 1, 1) := dk_27 (dk_at dksX3_layOut_1 9 rfl rfl)
theorem dX3_layOut_34 : decode cX3_layOut 34 = .ok (.iload 5, 2) := dk_21 5 (dk_at dksX3_layOut_1 10 rfl rfl)
theorem dX3_layOut_36 : decode cX3_layOut 36 = .ok (.invokevirtual 185, 3) := dk_182 0 185 (dk_at dksX3_layOut_1 12 rfl rfl)
theorem dX3_layOut_39 : decode cX3_layOut 39 = .ok (.ifCond .ne 18, 3) := dk_154 0 18 (dk_at dksX3_layOut_1 15 rfl rfl)
theorem dX3_layOut_42 : decode cX3_layOut 42 = .ok (.iload_n 3, 1) := dk_29 (dk_at dksX3_layOut_1 18 rfl rfl)
theorem dX3_layOut_43 : decode cX3_layOut 43 = .ok (.iconst 1, 1) := dk_4 (dk_at dksX3_layOut_1 19 rfl rfl)
theorem dX3_layOut_44 : decode cX3_layOut 44 = .ok (.iadd, 1) := dk_96 (dk_at dksX3_layOut_1 20 rfl rfl)
theorem dX3_layOut_45 : decode cX3_layOut 45 = .ok (.iload 6, 2) := dk_21 6 (dk_at dksX3_layOut_1 21 rfl rfl)
theorem dX3_layOut_47 : decode cX3_layOut 47 = .ok (.iadd, 1) := dk_96 (dk_at dksX3_layOut_1 23 rfl rfl)
theorem dX3_layOut_48 : decode cX3_layOut 48 = .ok (.aload_n 0, 1) := dk_42 (dk_at dksX3_layOut_2 0 rfl rfl)
theorem dX3_layOut_49 : decode cX3_layOut 49 = .ok (.iload_n 1, 1) := dk_27 (dk_at dksX3_layOut_2 1 rfl rfl)
theorem dX3_layOut_50 : decode cX3_layOut 50 = .ok (.iconst 1, 1) := dk_4 (dk_at dksX3_layOut_2 2 rfl rfl)
theorem dX3_layOut_51 : decode cX3_layOut 51 = .ok (.invokevirtual 103, 3) := dk_182 0 103 (dk_at dksX3_layOut_2 3 rfl rfl)
theorem dX3_layOut_54 : decode cX3_layOut 54 = .ok (.if_icmp .le 14, 3) := dk_164 0 14 (dk_at dksX3_layOut_2 6 rfl rfl)
theorem dX3_layOut_57 : decode cX3_layOut 57 = .ok (.iinc 2 1, 3) := dk_132 2 1 (dk_at dksX3_layOut_2 9 rfl rfl)
theorem dX3_layOut_60 : decode cX3_layOut 60 = .ok (.iconst 0, 1) := dk_3 (dk_at dksX3_layOut_2 12 rfl rfl)
theorem dX3_layOut_61 : decode cX3_layOut 61 = .ok (.istore_n 3, 1) := dk_62 (dk_at dksX3_layOut_2 13 rfl rfl)
theorem dX3_layOut_62 : decode cX3_layOut 62 = .ok (.iconst 0, 1) := dk_3 (dk_at dksX3_layOut_2 14 rfl rfl)
theorem dX3_layOut_63 : decode cX3_layOut 63 = .ok (.istore 4, 2) := dk_54 4 (dk_at dksX3_layOut_2 15 rfl rfl)
theorem dX3_layOut_65 : decode cX3_layOut 65 = .ok (.goto 9, 3) := dk_167 0 9 (dk_at dksX3_layOut_2 17 rfl rfl)
theorem dX3_layOut_68 : decode cX3_layOut 68 = .ok (.iinc 3 1, 3) := dk_132 3 1 (dk_at dksX3_layOut_2 20 rfl rfl)
theorem dX3_layOut_71 : decode cX3_layOut 71 = .ok (.iinc 4 1, 3) := dk_132 4 1 (dk_at dksX3_layOut_3 0 rfl rfl)
theorem dX3_layOut_74 : decode cX3_layOut 74 = .ok (.aload_n 0, 1) := dk_42 (dk_at dksX3_layOut_3 3 rfl rfl)
theorem dX3_layOut_75 : decode cX3_layOut 75 = .ok (.getfield 39, 3) := dk_180 0 39 (dk_at dksX3_layOut_3 4 rfl rfl)
theorem dX3_layOut_78 : decode cX3_layOut 78 = .ok (.iload 5, 2) := dk_21 5 (dk_at dksX3_layOut_3 7 rfl rfl)
theorem dX3_layOut_80 : decode cX3_layOut 80 = .ok (.iload_n 2, 1) := dk_28 (dk_at dksX3_layOut_3 9 rfl rfl)
theorem dX3_layOut_81 : decode cX3_layOut 81 = .ok (.iastore, 1) := dk_79 (dk_at dksX3_layOut_3 10 rfl rfl)
theorem dX3_layOut_82 : decode cX3_layOut 82 = .ok (.aload_n 0, 1) := dk_42 (dk_at dksX3_layOut_3 11 rfl rfl)
theorem dX3_layOut_83 : decode cX3_layOut 83 = .ok (.getfield 42, 3) := dk_180 0 42 (dk_at dksX3_layOut_3 12 rfl rfl)
theorem dX3_layOut_86 : decode cX3_layOut 86 = .ok (.iload 5, 2) := dk_21 5 (dk_at dksX3_layOut_3 15 rfl rfl)
theorem dX3_layOut_88 : decode cX3_layOut 88 = .ok (.iload_n 3, 1) := dk_29 (dk_at dksX3_layOut_3 17 rfl rfl)
theorem dX3_layOut_89 : decode cX3_layOut 89 = .ok (.iastore, 1) := dk_79 (dk_at dksX3_layOut_3 18 rfl rfl)
theorem dX3_layOut_90 : decode cX3_layOut 90 = .ok (.aload_n 0, 1) := dk_42 (dk_at dksX3_layOut_3 19 rfl rfl)
theorem dX3_layOut_91 : decode cX3_layOut 91 = .ok (.getfield 45, 3) := dk_180 0 45 (dk_at dksX3_layOut_3 20 rfl rfl)
theorem dX3_layOut_94 : decode cX3_layOut 94 = .ok (.iload 5, 2) := dk_21 5 (dk_at dksX3_layOut_4 0 rfl rfl)
theorem dX3_layOut_96 : decode cX3_layOut 96 = .ok (.iload 4, 2) := dk_21 4 (dk_at dksX3_layOut_4 2 rfl rfl)
theorem dX3_layOut_98 : decode cX3_layOut 98 = .ok (.iastore, 1) := dk_79 (dk_at dksX3_layOut_4 4 rfl rfl)
theorem dX3_layOut_99 : decode cX3_layOut 99 = .ok (.iload_n 3, 1) := dk_29 (dk_at dksX3_layOut_4 5 rfl rfl)
theorem dX3_layOut_100 : decode cX3_layOut 100 = .ok (.iload 6, 2) := dk_21 6 (dk_at dksX3_layOut_4 6 rfl rfl)
theorem dX3_layOut_102 : decode cX3_layOut 102 = .ok (.iadd, 1) := dk_96 (dk_at dksX3_layOut_4 8 rfl rfl)
theorem dX3_layOut_103 : decode cX3_layOut 103 = .ok (.istore_n 3, 1) := dk_62 (dk_at dksX3_layOut_4 9 rfl rfl)
theorem dX3_layOut_104 : decode cX3_layOut 104 = .ok (.iinc 5 1, 3) := dk_132 5 1 (dk_at dksX3_layOut_4 10 rfl rfl)
theorem dX3_layOut_107 : decode cX3_layOut 107 = .ok (.goto (-97), 3) := dk_167 255 159 (dk_at dksX3_layOut_4 13 rfl rfl)
theorem dX3_layOut_110 : decode cX3_layOut 110 = .ok (.return_, 1) := dk_177 (dk_at dksX3_layOut_4 16 rfl rfl)
abbrev cX3_lettersOf : ByteArray := prog_16_method_22_code
def yX3_lettersOf : MethodName := ⟨RX3, "lettersOf", "(J)I"⟩
def dkwX3_lettersOf_0 : List UInt8 := [3, 61, 30, 66, 33, 9, 148, 158, 0, 15, 33, 20, 0, 132, 109, 66, 132, 2, 1, 167, 255, 241, 28, 172]
abbrev dktX3_lettersOf_0 : List UInt8 := dkwX3_lettersOf_0 ++ []
theorem dksX3_lettersOf_0 : cX3_lettersOf.data.toList.drop 0 = dktX3_lettersOf_0 := by decide +kernel
theorem dX3_lettersOf_0 : decode cX3_lettersOf 0 = .ok (.iconst 0, 1) := dk_3 (dk_at dksX3_lettersOf_0 0 rfl rfl)
theorem dX3_lettersOf_1 : decode cX3_lettersOf 1 = .ok (.istore_n 2, 1) := dk_61 (dk_at dksX3_lettersOf_0 1 rfl rfl)
theorem dX3_lettersOf_2 : decode cX3_lettersOf 2 = .ok (.lload_n 0, 1) := dk_30 (dk_at dksX3_lettersOf_0 2 rfl rfl)
theorem dX3_lettersOf_3 : decode cX3_lettersOf 3 = .ok (.lstore_n 3, 1) := dk_66 (dk_at dksX3_lettersOf_0 3 rfl rfl)
theorem dX3_lettersOf_4 : decode cX3_lettersOf 4 = .ok (.lload_n 3, 1) := dk_33 (dk_at dksX3_lettersOf_0 4 rfl rfl)
theorem dX3_lettersOf_5 : decode cX3_lettersOf 5 = .ok (.lconst 0, 1) := dk_9 (dk_at dksX3_lettersOf_0 5 rfl rfl)
theorem dX3_lettersOf_6 : decode cX3_lettersOf 6 = .ok (.lcmp, 1) := dk_148 (dk_at dksX3_lettersOf_0 6 rfl rfl)
theorem dX3_lettersOf_7 : decode cX3_lettersOf 7 = .ok (.ifCond .le 15, 3) := dk_158 0 15 (dk_at dksX3_lettersOf_0 7 rfl rfl)
theorem dX3_lettersOf_10 : decode cX3_lettersOf 10 = .ok (.lload_n 3, 1) := dk_33 (dk_at dksX3_lettersOf_0 10 rfl rfl)
theorem dX3_lettersOf_11 : decode cX3_lettersOf 11 = .ok (.ldc2_w 132, 3) := dk_20 0 132 (dk_at dksX3_lettersOf_0 11 rfl rfl)
theorem dX3_lettersOf_14 : decode cX3_lettersOf 14 = .ok (.ldiv, 1) := dk_109 (dk_at dksX3_lettersOf_0 14 rfl rfl)
theorem dX3_lettersOf_15 : decode cX3_lettersOf 15 = .ok (.lstore_n 3, 1) := dk_66 (dk_at dksX3_lettersOf_0 15 rfl rfl)
theorem dX3_lettersOf_16 : decode cX3_lettersOf 16 = .ok (.iinc 2 1, 3) := dk_132 2 1 (dk_at dksX3_lettersOf_0 16 rfl rfl)
theorem dX3_lettersOf_19 : decode cX3_lettersOf 19 = .ok (.goto (-15), 3) := dk_167 255 241 (dk_at dksX3_lettersOf_0 19 rfl rfl)
theorem dX3_lettersOf_22 : decode cX3_lettersOf 22 = .ok (.iload_n 2, 1) := dk_28 (dk_at dksX3_lettersOf_0 22 rfl rfl)
theorem dX3_lettersOf_23 : decode cX3_lettersOf 23 = .ok (.ireturn, 1) := dk_172 (dk_at dksX3_lettersOf_0 23 rfl rfl)
abbrev cX3_beginsParagraph : ByteArray := prog_16_method_21_code
def yX3_beginsParagraph : MethodName := ⟨RX3, "beginsParagraph", "(II)Z"⟩
def dkwX3_beginsParagraph_0 : List UInt8 := [42, 180, 0, 7, 16, 14, 27, 28, 184, 0, 129, 96, 46, 4, 160, 0, 7, 4, 167, 0, 4, 3, 172]
abbrev dktX3_beginsParagraph_0 : List UInt8 := dkwX3_beginsParagraph_0 ++ []
theorem dksX3_beginsParagraph_0 : cX3_beginsParagraph.data.toList.drop 0 = dktX3_beginsParagraph_0 := by decide +kernel
theorem dX3_beginsParagraph_0 : decode cX3_beginsParagraph 0 = .ok (.aload_n 0, 1) := dk_42 (dk_at dksX3_beginsParagraph_0 0 rfl rfl)
theorem dX3_beginsParagraph_1 : decode cX3_beginsParagraph 1 = .ok (.getfield 7, 3) := dk_180 0 7 (dk_at dksX3_beginsParagraph_0 1 rfl rfl)
theorem dX3_beginsParagraph_4 : decode cX3_beginsParagraph 4 = .ok (.bipush 14, 2) := dk_16 14 (dk_at dksX3_beginsParagraph_0 4 rfl rfl)
theorem dX3_beginsParagraph_6 : decode cX3_beginsParagraph 6 = .ok (.iload_n 1, 1) := dk_27 (dk_at dksX3_beginsParagraph_0 6 rfl rfl)
theorem dX3_beginsParagraph_7 : decode cX3_beginsParagraph 7 = .ok (.iload_n 2, 1) := dk_28 (dk_at dksX3_beginsParagraph_0 7 rfl rfl)
theorem dX3_beginsParagraph_8 : decode cX3_beginsParagraph 8 = .ok (.invokestatic 129, 3) := dk_184 0 129 (dk_at dksX3_beginsParagraph_0 8 rfl rfl)
theorem dX3_beginsParagraph_11 : decode cX3_beginsParagraph 11 = .ok (.iadd, 1) := dk_96 (dk_at dksX3_beginsParagraph_0 11 rfl rfl)
theorem dX3_beginsParagraph_12 : decode cX3_beginsParagraph 12 = .ok (.iaload, 1) := dk_46 (dk_at dksX3_beginsParagraph_0 12 rfl rfl)
theorem dX3_beginsParagraph_13 : decode cX3_beginsParagraph 13 = .ok (.iconst 1, 1) := dk_4 (dk_at dksX3_beginsParagraph_0 13 rfl rfl)
theorem dX3_beginsParagraph_14 : decode cX3_beginsParagraph 14 = .ok (.if_icmp .ne 7, 3) := dk_160 0 7 (dk_at dksX3_beginsParagraph_0 14 rfl rfl)
theorem dX3_beginsParagraph_17 : decode cX3_beginsParagraph 17 = .ok (.iconst 1, 1) := dk_4 (dk_at dksX3_beginsParagraph_0 17 rfl rfl)
theorem dX3_beginsParagraph_18 : decode cX3_beginsParagraph 18 = .ok (.goto 4, 3) := dk_167 0 4 (dk_at dksX3_beginsParagraph_0 18 rfl rfl)
theorem dX3_beginsParagraph_21 : decode cX3_beginsParagraph 21 = .ok (.iconst 0, 1) := dk_3 (dk_at dksX3_beginsParagraph_0 21 rfl rfl)
theorem dX3_beginsParagraph_22 : decode cX3_beginsParagraph 22 = .ok (.ireturn, 1) := dk_172 (dk_at dksX3_beginsParagraph_0 22 rfl rfl)
abbrev cX3_pagesOf : ByteArray := prog_16_method_38_code
def yX3_pagesOf : MethodName := ⟨RX3, "pagesOf", "(I)I"⟩
def dkwX3_pagesOf_0 : List UInt8 := [42, 27, 182, 0, 188, 42, 27, 5, 182, 0, 103, 96, 4, 100, 42, 27, 5, 182, 0, 103, 108, 172]
abbrev dktX3_pagesOf_0 : List UInt8 := dkwX3_pagesOf_0 ++ []
theorem dksX3_pagesOf_0 : cX3_pagesOf.data.toList.drop 0 = dktX3_pagesOf_0 := by decide +kernel
theorem dX3_pagesOf_0 : decode cX3_pagesOf 0 = .ok (.aload_n 0, 1) := dk_42 (dk_at dksX3_pagesOf_0 0 rfl rfl)
theorem dX3_pagesOf_1 : decode cX3_pagesOf 1 = .ok (.iload_n 1, 1) := dk_27 (dk_at dksX3_pagesOf_0 1 rfl rfl)
theorem dX3_pagesOf_2 : decode cX3_pagesOf 2 = .ok (.invokevirtual 188, 3) := dk_182 0 188 (dk_at dksX3_pagesOf_0 2 rfl rfl)
theorem dX3_pagesOf_5 : decode cX3_pagesOf 5 = .ok (.aload_n 0, 1) := dk_42 (dk_at dksX3_pagesOf_0 5 rfl rfl)
theorem dX3_pagesOf_6 : decode cX3_pagesOf 6 = .ok (.iload_n 1, 1) := dk_27 (dk_at dksX3_pagesOf_0 6 rfl rfl)
theorem dX3_pagesOf_7 : decode cX3_pagesOf 7 = .ok (.iconst 2, 1) := dk_5 (dk_at dksX3_pagesOf_0 7 rfl rfl)
theorem dX3_pagesOf_8 : decode cX3_pagesOf 8 = .ok (.invokevirtual 103, 3) := dk_182 0 103 (dk_at dksX3_pagesOf_0 8 rfl rfl)
theorem dX3_pagesOf_11 : decode cX3_pagesOf 11 = .ok (.iadd, 1) := dk_96 (dk_at dksX3_pagesOf_0 11 rfl rfl)
theorem dX3_pagesOf_12 : decode cX3_pagesOf 12 = .ok (.iconst 1, 1) := dk_4 (dk_at dksX3_pagesOf_0 12 rfl rfl)
theorem dX3_pagesOf_13 : decode cX3_pagesOf 13 = .ok (.isub, 1) := dk_100 (dk_at dksX3_pagesOf_0 13 rfl rfl)
theorem dX3_pagesOf_14 : decode cX3_pagesOf 14 = .ok (.aload_n 0, 1) := dk_42 (dk_at dksX3_pagesOf_0 14 rfl rfl)
theorem dX3_pagesOf_15 : decode cX3_pagesOf 15 = .ok (.iload_n 1, 1) := dk_27 (dk_at dksX3_pagesOf_0 15 rfl rfl)
theorem dX3_pagesOf_16 : decode cX3_pagesOf 16 = .ok (.iconst 2, 1) := dk_5 (dk_at dksX3_pagesOf_0 16 rfl rfl)
theorem dX3_pagesOf_17 : decode cX3_pagesOf 17 = .ok (.invokevirtual 103, 3) := dk_182 0 103 (dk_at dksX3_pagesOf_0 17 rfl rfl)
theorem dX3_pagesOf_20 : decode cX3_pagesOf 20 = .ok (.idiv, 1) := dk_108 (dk_at dksX3_pagesOf_0 20 rfl rfl)
theorem dX3_pagesOf_21 : decode cX3_pagesOf 21 = .ok (.ireturn, 1) := dk_172 (dk_at dksX3_pagesOf_0 21 rfl rfl)
abbrev cX3_linesOf : ByteArray := prog_16_method_37_code
def yX3_linesOf : MethodName := ⟨RX3, "linesOf", "(I)I"⟩
def dkwX3_linesOf_0 : List UInt8 := [42, 180, 0, 39, 42, 27, 182, 0, 119, 4, 100, 46, 4, 96, 172]
abbrev dktX3_linesOf_0 : List UInt8 := dkwX3_linesOf_0 ++ []
theorem dksX3_linesOf_0 : cX3_linesOf.data.toList.drop 0 = dktX3_linesOf_0 := by decide +kernel
theorem dX3_linesOf_0 : decode cX3_linesOf 0 = .ok (.aload_n 0, 1) := dk_42 (dk_at dksX3_linesOf_0 0 rfl rfl)
theorem dX3_linesOf_1 : decode cX3_linesOf 1 = .ok (.getfield 39, 3) := dk_180 0 39 (dk_at dksX3_linesOf_0 1 rfl rfl)
theorem dX3_linesOf_4 : decode cX3_linesOf 4 = .ok (.aload_n 0, 1) := dk_42 (dk_at dksX3_linesOf_0 4 rfl rfl)
theorem dX3_linesOf_5 : decode cX3_linesOf 5 = .ok (.iload_n 1, 1) := dk_27 (dk_at dksX3_linesOf_0 5 rfl rfl)
theorem dX3_linesOf_6 : decode cX3_linesOf 6 = .ok (.invokevirtual 119, 3) := dk_182 0 119 (dk_at dksX3_linesOf_0 6 rfl rfl)
theorem dX3_linesOf_9 : decode cX3_linesOf 9 = .ok (.iconst 1, 1) := dk_4 (dk_at dksX3_linesOf_0 9 rfl rfl)
theorem dX3_linesOf_10 : decode cX3_linesOf 10 = .ok (.isub, 1) := dk_100 (dk_at dksX3_linesOf_0 10 rfl rfl)
theorem dX3_linesOf_11 : decode cX3_linesOf 11 = .ok (.iaload, 1) := dk_46 (dk_at dksX3_linesOf_0 11 rfl rfl)
theorem dX3_linesOf_12 : decode cX3_linesOf 12 = .ok (.iconst 1, 1) := dk_4 (dk_at dksX3_linesOf_0 12 rfl rfl)
theorem dX3_linesOf_13 : decode cX3_linesOf 13 = .ok (.iadd, 1) := dk_96 (dk_at dksX3_linesOf_0 13 rfl rfl)
theorem dX3_linesOf_14 : decode cX3_linesOf 14 = .ok (.ireturn, 1) := dk_172 (dk_at dksX3_linesOf_0 14 rfl rfl)
abbrev cX3_edition : ByteArray := prog_16_method_40_code
def yX3_edition : MethodName := ⟨RX3, "edition", "(II)I"⟩
def dkwX3_edition_4 : List UInt8 := [172, 42, 27, 5, 182, 0, 103, 172, 42, 5, 182, 0, 141, 172]
abbrev dktX3_edition_4 : List UInt8 := dkwX3_edition_4 ++ []
def dkwX3_edition_3 : List UInt8 := [42, 27, 182, 0, 119, 172, 42, 27, 182, 0, 188, 172, 42, 27, 182, 0, 195, 172, 42, 27, 4, 182, 0, 103]
abbrev dktX3_edition_3 : List UInt8 := dkwX3_edition_3 ++ dktX3_edition_4
def dkwX3_edition_2 : List UInt8 := [170, 0, 0, 0, 0, 0, 67, 0, 0, 0, 0, 0, 0, 0, 4, 0, 0, 0, 35, 0, 0, 0, 41, 0, 0, 0, 47, 0, 0, 0, 53, 0, 0, 0, 60]
abbrev dktX3_edition_2 : List UInt8 := dkwX3_edition_2 ++ dktX3_edition_3
def dkwX3_edition_1 : List UInt8 := [28]
abbrev dktX3_edition_1 : List UInt8 := dkwX3_edition_1 ++ dktX3_edition_2
def dkwX3_edition_0 : List UInt8 := [42, 3, 181, 0, 100, 42, 27, 182, 0, 115, 154, 0, 9, 42, 4, 182, 0, 141, 172, 42, 27, 182, 0, 191]
abbrev dktX3_edition_0 : List UInt8 := dkwX3_edition_0 ++ dktX3_edition_1
theorem dksX3_edition_0 : cX3_edition.data.toList.drop 0 = dktX3_edition_0 := by decide +kernel
theorem dksX3_edition_1 : cX3_edition.data.toList.drop 24 = dktX3_edition_1 := dk_seg dksX3_edition_0 24 rfl rfl
theorem dksX3_edition_2 : cX3_edition.data.toList.drop 25 = dktX3_edition_2 := dk_seg dksX3_edition_1 1 rfl rfl
theorem dksX3_edition_3 : cX3_edition.data.toList.drop 60 = dktX3_edition_3 := dk_seg dksX3_edition_2 35 rfl rfl
theorem dksX3_edition_4 : cX3_edition.data.toList.drop 84 = dktX3_edition_4 := dk_seg dksX3_edition_3 24 rfl rfl
theorem dX3_edition_0 : decode cX3_edition 0 = .ok (.aload_n 0, 1) := dk_42 (dk_at dksX3_edition_0 0 rfl rfl)
theorem dX3_edition_1 : decode cX3_edition 1 = .ok (.iconst 0, 1) := dk_3 (dk_at dksX3_edition_0 1 rfl rfl)
theorem dX3_edition_2 : decode cX3_edition 2 = .ok (.putfield 100, 3) := dk_181 0 100 (dk_at dksX3_edition_0 2 rfl rfl)
theorem dX3_edition_5 : decode cX3_edition 5 = .ok (.aload_n 0, 1) := dk_42 (dk_at dksX3_edition_0 5 rfl rfl)
theorem dX3_edition_6 : decode cX3_edition 6 = .ok (.iload_n 1, 1) := dk_27 (dk_at dksX3_edition_0 6 rfl rfl)
theorem dX3_edition_7 : decode cX3_edition 7 = .ok (.invokevirtual 115, 3) := dk_182 0 115 (dk_at dksX3_edition_0 7 rfl rfl)
theorem dX3_edition_10 : decode cX3_edition 10 = .ok (.ifCond .ne 9, 3) := dk_154 0 9 (dk_at dksX3_edition_0 10 rfl rfl)
theorem dX3_edition_13 : decode cX3_edition 13 = .ok (.aload_n 0, 1) := dk_42 (dk_at dksX3_edition_0 13 rfl rfl)
theorem dX3_edition_14 : decode cX3_edition 14 = .ok (.iconst 1, 1) := dk_4 (dk_at dksX3_edition_0 14 rfl rfl)
theorem dX3_edition_15 : decode cX3_edition 15 = .ok (.invokevirtual 141, 3) := dk_182 0 141 (dk_at dksX3_edition_0 15 rfl rfl)
theorem dX3_edition_18 : decode cX3_edition 18 = .ok (.ireturn, 1) := dk_172 (dk_at dksX3_edition_0 18 rfl rfl)
theorem dX3_edition_19 : decode cX3_edition 19 = .ok (.aload_n 0, 1) := dk_42 (dk_at dksX3_edition_0 19 rfl rfl)
theorem dX3_edition_20 : decode cX3_edition 20 = .ok (.iload_n 1, 1) := dk_27 (dk_at dksX3_edition_0 20 rfl rfl)
theorem dX3_edition_21 : decode cX3_edition 21 = .ok (.invokevirtual 191, 3) := dk_182 0 191 (dk_at dksX3_edition_0 21 rfl rfl)
theorem dX3_edition_24 : decode cX3_edition 24 = .ok (.iload_n 2, 1) := dk_28 (dk_at dksX3_edition_1 0 rfl rfl)
theorem dX3_edition_25 : decode cX3_edition 25 = .ok (.tableswitch 67 0 4 #[35, 41, 47, 53, 60], 35) := by decide +kernel
theorem dX3_edition_60 : decode cX3_edition 60 = .ok (.aload_n 0, 1) := dk_42 (dk_at dksX3_edition_3 0 rfl rfl)
theorem dX3_edition_61 : decode cX3_edition 61 = .ok (.iload_n 1, 1) := dk_27 (dk_at dksX3_edition_3 1 rfl rfl)
theorem dX3_edition_62 : decode cX3_edition 62 = .ok (.invokevirtual 119, 3) := dk_182 0 119 (dk_at dksX3_edition_3 2 rfl rfl)
theorem dX3_edition_65 : decode cX3_edition 65 = .ok (.ireturn, 1) := dk_172 (dk_at dksX3_edition_3 5 rfl rfl)
theorem dX3_edition_66 : decode cX3_edition 66 = .ok (.aload_n 0, 1) := dk_42 (dk_at dksX3_edition_3 6 rfl rfl)
theorem dX3_edition_67 : decode cX3_edition 67 = .ok (.iload_n 1, 1) := dk_27 (dk_at dksX3_edition_3 7 rfl rfl)
theorem dX3_edition_68 : decode cX3_edition 68 = .ok (.invokevirtual 188, 3) := dk_182 0 188 (dk_at dksX3_edition_3 8 rfl rfl)
theorem dX3_edition_71 : decode cX3_edition 71 = .ok (.ireturn, 1) := dk_172 (dk_at dksX3_edition_3 11 rfl rfl)
theorem dX3_edition_72 : decode cX3_edition 72 = .ok (.aload_n 0, 1) := dk_42 (dk_at dksX3_edition_3 12 rfl rfl)
theorem dX3_edition_73 : decode cX3_edition 73 = .ok (.iload_n 1, 1) := dk_27 (dk_at dksX3_edition_3 13 rfl rfl)
theorem dX3_edition_74 : decode cX3_edition 74 = .ok (.invokevirtual 195, 3) := dk_182 0 195 (dk_at dksX3_edition_3 14 rfl rfl)
theorem dX3_edition_77 : decode cX3_edition 77 = .ok (.ireturn, 1) := dk_172 (dk_at dksX3_edition_3 17 rfl rfl)
theorem dX3_edition_78 : decode cX3_edition 78 = .ok (.aload_n 0, 1) := dk_42 (dk_at dksX3_edition_3 18 rfl rfl)
theorem dX3_edition_79 : decode cX3_edition 79 = .ok (.iload_n 1, 1) := dk_27 (dk_at dksX3_edition_3 19 rfl rfl)
theorem dX3_edition_80 : decode cX3_edition 80 = .ok (.iconst 1, 1) := dk_4 (dk_at dksX3_edition_3 20 rfl rfl)
theorem dX3_edition_81 : decode cX3_edition 81 = .ok (.invokevirtual 103, 3) := dk_182 0 103 (dk_at dksX3_edition_3 21 rfl rfl)
theorem dX3_edition_84 : decode cX3_edition 84 = .ok (.ireturn, 1) := dk_172 (dk_at dksX3_edition_4 0 rfl rfl)
theorem dX3_edition_85 : decode cX3_edition 85 = .ok (.aload_n 0, 1) := dk_42 (dk_at dksX3_edition_4 1 rfl rfl)
theorem dX3_edition_86 : decode cX3_edition 86 = .ok (.iload_n 1, 1) := dk_27 (dk_at dksX3_edition_4 2 rfl rfl)
theorem dX3_edition_87 : decode cX3_edition 87 = .ok (.iconst 2, 1) := dk_5 (dk_at dksX3_edition_4 3 rfl rfl)
theorem dX3_edition_88 : decode cX3_edition 88 = .ok (.invokevirtual 103, 3) := dk_182 0 103 (dk_at dksX3_edition_4 4 rfl rfl)
theorem dX3_edition_91 : decode cX3_edition 91 = .ok (.ireturn, 1) := dk_172 (dk_at dksX3_edition_4 7 rfl rfl)
theorem dX3_edition_92 : decode cX3_edition 92 = .ok (.aload_n 0, 1) := dk_42 (dk_at dksX3_edition_4 8 rfl rfl)
theorem dX3_edition_93 : decode cX3_edition 93 = .ok (.iconst 2, 1) := dk_5 (dk_at dksX3_edition_4 9 rfl rfl)
theorem dX3_edition_94 : decode cX3_edition 94 = .ok (.invokevirtual 141, 3) := dk_182 0 141 (dk_at dksX3_edition_4 10 rfl rfl)
theorem dX3_edition_97 : decode cX3_edition 97 = .ok (.ireturn, 1) := dk_172 (dk_at dksX3_edition_4 13 rfl rfl)
abbrev cX3_word : ByteArray := prog_16_method_41_code
def yX3_word : MethodName := ⟨RX3, "word", "(III)I"⟩
def dkwX3_word_6 : List UInt8 := [182, 0, 141, 172]
abbrev dktX3_word_6 : List UInt8 := dkwX3_word_6 ++ []
def dkwX3_word_5 : List UInt8 := [182, 0, 181, 184, 0, 134, 172, 42, 27, 28, 182, 0, 185, 153, 0, 7, 4, 167, 0, 4, 3, 172, 42, 5]
abbrev dktX3_word_5 : List UInt8 := dkwX3_word_5 ++ dktX3_word_6
def dkwX3_word_4 : List UInt8 := [182, 0, 103, 112, 172, 42, 180, 0, 42, 28, 46, 172, 42, 180, 0, 45, 28, 46, 172, 42, 27, 28]
abbrev dktX3_word_4 : List UInt8 := dkwX3_word_4 ++ dktX3_word_5
def dkwX3_word_3 : List UInt8 := [42, 180, 0, 39, 28, 46, 42, 27, 5, 182, 0, 103, 108, 172, 42, 180, 0, 39, 28, 46, 42, 27, 5]
abbrev dktX3_word_3 : List UInt8 := dkwX3_word_3 ++ dktX3_word_4
def dkwX3_word_2 : List UInt8 := [170, 0, 0, 0, 0, 105, 0, 0, 0, 0, 0, 0, 0, 5, 0, 0, 0, 38, 0, 0, 0, 52, 0, 0, 0, 66, 0, 0, 0, 73, 0, 0, 0, 80, 0, 0, 0, 90]
abbrev dktX3_word_2 : List UInt8 := dkwX3_word_2 ++ dktX3_word_3
def dkwX3_word_1 : List UInt8 := [182, 0, 191, 29]
abbrev dktX3_word_1 : List UInt8 := dkwX3_word_1 ++ dktX3_word_2
def dkwX3_word_0 : List UInt8 := [42, 3, 181, 0, 100, 42, 27, 28, 182, 0, 198, 154, 0, 9, 42, 4, 182, 0, 141, 172, 42, 27]
abbrev dktX3_word_0 : List UInt8 := dkwX3_word_0 ++ dktX3_word_1
theorem dksX3_word_0 : cX3_word.data.toList.drop 0 = dktX3_word_0 := by decide +kernel
theorem dksX3_word_1 : cX3_word.data.toList.drop 22 = dktX3_word_1 := dk_seg dksX3_word_0 22 rfl rfl
theorem dksX3_word_2 : cX3_word.data.toList.drop 26 = dktX3_word_2 := dk_seg dksX3_word_1 4 rfl rfl
theorem dksX3_word_3 : cX3_word.data.toList.drop 64 = dktX3_word_3 := dk_seg dksX3_word_2 38 rfl rfl
theorem dksX3_word_4 : cX3_word.data.toList.drop 87 = dktX3_word_4 := dk_seg dksX3_word_3 23 rfl rfl
theorem dksX3_word_5 : cX3_word.data.toList.drop 109 = dktX3_word_5 := dk_seg dksX3_word_4 22 rfl rfl
theorem dksX3_word_6 : cX3_word.data.toList.drop 133 = dktX3_word_6 := dk_seg dksX3_word_5 24 rfl rfl
theorem dX3_word_0 : decode cX3_word 0 = .ok (.aload_n 0, 1) := dk_42 (dk_at dksX3_word_0 0 rfl rfl)
theorem dX3_word_1 : decode cX3_word 1 = .ok (.iconst 0, 1) := dk_3 (dk_at dksX3_word_0 1 rfl rfl)
theorem dX3_word_2 : decode cX3_word 2 = .ok (.putfield 100, 3) := dk_181 0 100 (dk_at dksX3_word_0 2 rfl rfl)
theorem dX3_word_5 : decode cX3_word 5 = .ok (.aload_n 0, 1) := dk_42 (dk_at dksX3_word_0 5 rfl rfl)
theorem dX3_word_6 : decode cX3_word 6 = .ok (.iload_n 1, 1) := dk_27 (dk_at dksX3_word_0 6 rfl rfl)
theorem dX3_word_7 : decode cX3_word 7 = .ok (.iload_n 2, 1) := dk_28 (dk_at dksX3_word_0 7 rfl rfl)
theorem dX3_word_8 : decode cX3_word 8 = .ok (.invokevirtual 198, 3) := dk_182 0 198 (dk_at dksX3_word_0 8 rfl rfl)
theorem dX3_word_11 : decode cX3_word 11 = .ok (.ifCond .ne 9, 3) := dk_154 0 9 (dk_at dksX3_word_0 11 rfl rfl)
theorem dX3_word_14 : decode cX3_word 14 = .ok (.aload_n 0, 1) := dk_42 (dk_at dksX3_word_0 14 rfl rfl)
theorem dX3_word_15 : decode cX3_word 15 = .ok (.iconst 1, 1) := dk_4 (dk_at dksX3_word_0 15 rfl rfl)
theorem dX3_word_16 : decode cX3_word 16 = .ok (.invokevirtual 141, 3) := dk_182 0 141 (dk_at dksX3_word_0 16 rfl rfl)
theorem dX3_word_19 : decode cX3_word 19 = .ok (.ireturn, 1) := dk_172 (dk_at dksX3_word_0 19 rfl rfl)
theorem dX3_word_20 : decode cX3_word 20 = .ok (.aload_n 0, 1) := dk_42 (dk_at dksX3_word_0 20 rfl rfl)
theorem dX3_word_21 : decode cX3_word 21 = .ok (.iload_n 1, 1) := dk_27 (dk_at dksX3_word_0 21 rfl rfl)
theorem dX3_word_22 : decode cX3_word 22 = .ok (.invokevirtual 191, 3) := dk_182 0 191 (dk_at dksX3_word_1 0 rfl rfl)
theorem dX3_word_25 : decode cX3_word 25 = .ok (.iload_n 3, 1) := dk_29 (dk_at dksX3_word_1 3 rfl rfl)
theorem dX3_word_26 : decode cX3_word 26 = .ok (.tableswitch 105 0 5 #[38, 52, 66, 73, 80, 90], 38) := by decide +kernel
theorem dX3_word_64 : decode cX3_word 64 = .ok (.aload_n 0, 1) := dk_42 (dk_at dksX3_word_3 0 rfl rfl)
theorem dX3_word_65 : decode cX3_word 65 = .ok (.getfield 39, 3) := dk_180 0 39 (dk_at dksX3_word_3 1 rfl rfl)
theorem dX3_word_68 : decode cX3_word 68 = .ok (.iload_n 2, 1) := dk_28 (dk_at dksX3_word_3 4 rfl rfl)
theorem dX3_word_69 : decode cX3_word 69 = .ok (.iaload, 1) := dk_46 (dk_at dksX3_word_3 5 rfl rfl)
theorem dX3_word_70 : decode cX3_word 70 = .ok (.aload_n 0, 1) := dk_42 (dk_at dksX3_word_3 6 rfl rfl)
theorem dX3_word_71 : decode cX3_word 71 = .ok (.iload_n 1, 1) := dk_27 (dk_at dksX3_word_3 7 rfl rfl)
theorem dX3_word_72 : decode cX3_word 72 = .ok (.iconst 2, 1) := dk_5 (dk_at dksX3_word_3 8 rfl rfl)
theorem dX3_word_73 : decode cX3_word 73 = .ok (.invokevirtual 103, 3) := dk_182 0 103 (dk_at dksX3_word_3 9 rfl rfl)
theorem dX3_word_76 : decode cX3_word 76 = .ok (.idiv, 1) := dk_108 (dk_at dksX3_word_3 12 rfl rfl)
theorem dX3_word_77 : decode cX3_word 77 = .ok (.ireturn, 1) := dk_172 (dk_at dksX3_word_3 13 rfl rfl)
theorem dX3_word_78 : decode cX3_word 78 = .ok (.aload_n 0, 1) := dk_42 (dk_at dksX3_word_3 14 rfl rfl)
theorem dX3_word_79 : decode cX3_word 79 = .ok (.getfield 39, 3) := dk_180 0 39 (dk_at dksX3_word_3 15 rfl rfl)
theorem dX3_word_82 : decode cX3_word 82 = .ok (.iload_n 2, 1) := dk_28 (dk_at dksX3_word_3 18 rfl rfl)
theorem dX3_word_83 : decode cX3_word 83 = .ok (.iaload, 1) := dk_46 (dk_at dksX3_word_3 19 rfl rfl)
theorem dX3_word_84 : decode cX3_word 84 = .ok (.aload_n 0, 1) := dk_42 (dk_at dksX3_word_3 20 rfl rfl)
theorem dX3_word_85 : decode cX3_word 85 = .ok (.iload_n 1, 1) := dk_27 (dk_at dksX3_word_3 21 rfl rfl)
theorem dX3_word_86 : decode cX3_word 86 = .ok (.iconst 2, 1) := dk_5 (dk_at dksX3_word_3 22 rfl rfl)
theorem dX3_word_87 : decode cX3_word 87 = .ok (.invokevirtual 103, 3) := dk_182 0 103 (dk_at dksX3_word_4 0 rfl rfl)
theorem dX3_word_90 : decode cX3_word 90 = .ok (.irem, 1) := dk_112 (dk_at dksX3_word_4 3 rfl rfl)
theorem dX3_word_91 : decode cX3_word 91 = .ok (.ireturn, 1) := dk_172 (dk_at dksX3_word_4 4 rfl rfl)
theorem dX3_word_92 : decode cX3_word 92 = .ok (.aload_n 0, 1) := dk_42 (dk_at dksX3_word_4 5 rfl rfl)
theorem dX3_word_93 : decode cX3_word 93 = .ok (.getfield 42, 3) := dk_180 0 42 (dk_at dksX3_word_4 6 rfl rfl)
theorem dX3_word_96 : decode cX3_word 96 = .ok (.iload_n 2, 1) := dk_28 (dk_at dksX3_word_4 9 rfl rfl)
theorem dX3_word_97 : decode cX3_word 97 = .ok (.iaload, 1) := dk_46 (dk_at dksX3_word_4 10 rfl rfl)
theorem dX3_word_98 : decode cX3_word 98 = .ok (.ireturn, 1) := dk_172 (dk_at dksX3_word_4 11 rfl rfl)
theorem dX3_word_99 : decode cX3_word 99 = .ok (.aload_n 0, 1) := dk_42 (dk_at dksX3_word_4 12 rfl rfl)
theorem dX3_word_100 : decode cX3_word 100 = .ok (.getfield 45, 3) := dk_180 0 45 (dk_at dksX3_word_4 13 rfl rfl)
theorem dX3_word_103 : decode cX3_word 103 = .ok (.iload_n 2, 1) := dk_28 (dk_at dksX3_word_4 16 rfl rfl)
theorem dX3_word_104 : decode cX3_word 104 = .ok (.iaload, 1) := dk_46 (dk_at dksX3_word_4 17 rfl rfl)
theorem dX3_word_105 : decode cX3_word 105 = .ok (.ireturn, 1) := dk_172 (dk_at dksX3_word_4 18 rfl rfl)
theorem dX3_word_106 : decode cX3_word 106 = .ok (.aload_n 0, 1) := dk_42 (dk_at dksX3_word_4 19 rfl rfl)
theorem dX3_word_107 : decode cX3_word 107 = .ok (.iload_n 1, 1) := dk_27 (dk_at dksX3_word_4 20 rfl rfl)
theorem dX3_word_108 : decode cX3_word 108 = .ok (.iload_n 2, 1) := dk_28 (dk_at dksX3_word_4 21 rfl rfl)
theorem dX3_word_109 : decode cX3_word 109 = .ok (.invokevirtual 181, 3) := dk_182 0 181 (dk_at dksX3_word_5 0 rfl rfl)
theorem dX3_word_112 : decode cX3_word 112 = .ok (.invokestatic 134, 3) := dk_184 0 134 (dk_at dksX3_word_5 3 rfl rfl)
theorem dX3_word_115 : decode cX3_word 115 = .ok (.ireturn, 1) := dk_172 (dk_at dksX3_word_5 6 rfl rfl)
theorem dX3_word_116 : decode cX3_word 116 = .ok (.aload_n 0, 1) := dk_42 (dk_at dksX3_word_5 7 rfl rfl)
theorem dX3_word_117 : decode cX3_word 117 = .ok (.iload_n 1, 1) := dk_27 (dk_at dksX3_word_5 8 rfl rfl)
theorem dX3_word_118 : decode cX3_word 118 = .ok (.iload_n 2, 1) := dk_28 (dk_at dksX3_word_5 9 rfl rfl)
theorem dX3_word_119 : decode cX3_word 119 = .ok (.invokevirtual 185, 3) := dk_182 0 185 (dk_at dksX3_word_5 10 rfl rfl)
theorem dX3_word_122 : decode cX3_word 122 = .ok (.ifCond .eq 7, 3) := dk_153 0 7 (dk_at dksX3_word_5 13 rfl rfl)
theorem dX3_word_125 : decode cX3_word 125 = .ok (.iconst 1, 1) := dk_4 (dk_at dksX3_word_5 16 rfl rfl)
theorem dX3_word_126 : decode cX3_word 126 = .ok (.goto 4, 3) := dk_167 0 4 (dk_at dksX3_word_5 17 rfl rfl)
theorem dX3_word_129 : decode cX3_word 129 = .ok (.iconst 0, 1) := dk_3 (dk_at dksX3_word_5 20 rfl rfl)
theorem dX3_word_130 : decode cX3_word 130 = .ok (.ireturn, 1) := dk_172 (dk_at dksX3_word_5 21 rfl rfl)
theorem dX3_word_131 : decode cX3_word 131 = .ok (.aload_n 0, 1) := dk_42 (dk_at dksX3_word_5 22 rfl rfl)
theorem dX3_word_132 : decode cX3_word 132 = .ok (.iconst 2, 1) := dk_5 (dk_at dksX3_word_5 23 rfl rfl)
theorem dX3_word_133 : decode cX3_word 133 = .ok (.invokevirtual 141, 3) := dk_182 0 141 (dk_at dksX3_word_6 0 rfl rfl)
theorem dX3_word_136 : decode cX3_word 136 = .ok (.ireturn, 1) := dk_172 (dk_at dksX3_word_6 3 rfl rfl)
abbrev cX3_isWordOf : ByteArray := prog_16_method_15_code
def yX3_isWordOf : MethodName := ⟨RX3, "isWordOf", "(II)Z"⟩
def dkwX3_isWordOf_1 : List UInt8 := [167, 0, 4, 3, 172]
abbrev dktX3_isWordOf_1 : List UInt8 := dkwX3_isWordOf_1 ++ []
def dkwX3_isWordOf_0 : List UInt8 := [42, 27, 182, 0, 115, 153, 0, 22, 28, 3, 42, 27, 182, 0, 119, 4, 100, 184, 0, 111, 153, 0, 7, 4]
abbrev dktX3_isWordOf_0 : List UInt8 := dkwX3_isWordOf_0 ++ dktX3_isWordOf_1
theorem dksX3_isWordOf_0 : cX3_isWordOf.data.toList.drop 0 = dktX3_isWordOf_0 := by decide +kernel
theorem dksX3_isWordOf_1 : cX3_isWordOf.data.toList.drop 24 = dktX3_isWordOf_1 := dk_seg dksX3_isWordOf_0 24 rfl rfl
theorem dX3_isWordOf_0 : decode cX3_isWordOf 0 = .ok (.aload_n 0, 1) := dk_42 (dk_at dksX3_isWordOf_0 0 rfl rfl)
theorem dX3_isWordOf_1 : decode cX3_isWordOf 1 = .ok (.iload_n 1, 1) := dk_27 (dk_at dksX3_isWordOf_0 1 rfl rfl)
theorem dX3_isWordOf_2 : decode cX3_isWordOf 2 = .ok (.invokevirtual 115, 3) := dk_182 0 115 (dk_at dksX3_isWordOf_0 2 rfl rfl)
theorem dX3_isWordOf_5 : decode cX3_isWordOf 5 = .ok (.ifCond .eq 22, 3) := dk_153 0 22 (dk_at dksX3_isWordOf_0 5 rfl rfl)
theorem dX3_isWordOf_8 : decode cX3_isWordOf 8 = .ok (.iload_n 2, 1) := dk_28 (dk_at dksX3_isWordOf_0 8 rfl rfl)
theorem dX3_isWordOf_9 : decode cX3_isWordOf 9 = .ok (.iconst 0, 1) := dk_3 (dk_at dksX3_isWordOf_0 9 rfl rfl)
theorem dX3_isWordOf_10 : decode cX3_isWordOf 10 = .ok (.aload_n 0, 1) := dk_42 (dk_at dksX3_isWordOf_0 10 rfl rfl)
theorem dX3_isWordOf_11 : decode cX3_isWordOf 11 = .ok (.iload_n 1, 1) := dk_27 (dk_at dksX3_isWordOf_0 11 rfl rfl)
theorem dX3_isWordOf_12 : decode cX3_isWordOf 12 = .ok (.invokevirtual 119, 3) := dk_182 0 119 (dk_at dksX3_isWordOf_0 12 rfl rfl)
theorem dX3_isWordOf_15 : decode cX3_isWordOf 15 = .ok (.iconst 1, 1) := dk_4 (dk_at dksX3_isWordOf_0 15 rfl rfl)
theorem dX3_isWordOf_16 : decode cX3_isWordOf 16 = .ok (.isub, 1) := dk_100 (dk_at dksX3_isWordOf_0 16 rfl rfl)
theorem dX3_isWordOf_17 : decode cX3_isWordOf 17 = .ok (.invokestatic 111, 3) := dk_184 0 111 (dk_at dksX3_isWordOf_0 17 rfl rfl)
theorem dX3_isWordOf_20 : decode cX3_isWordOf 20 = .ok (.ifCond .eq 7, 3) := dk_153 0 7 (dk_at dksX3_isWordOf_0 20 rfl rfl)
theorem dX3_isWordOf_23 : decode cX3_isWordOf 23 = .ok (.iconst 1, 1) := dk_4 (dk_at dksX3_isWordOf_0 23 rfl rfl)
theorem dX3_isWordOf_24 : decode cX3_isWordOf 24 = .ok (.goto 4, 3) := dk_167 0 4 (dk_at dksX3_isWordOf_1 0 rfl rfl)
theorem dX3_isWordOf_27 : decode cX3_isWordOf 27 = .ok (.iconst 0, 1) := dk_3 (dk_at dksX3_isWordOf_1 3 rfl rfl)
theorem dX3_isWordOf_28 : decode cX3_isWordOf 28 = .ok (.ireturn, 1) := dk_172 (dk_at dksX3_isWordOf_1 4 rfl rfl)
abbrev cX3_letter : ByteArray := prog_16_method_42_code
def yX3_letter : MethodName := ⟨RX3, "letter", "(III)I"⟩
def dkwX3_letter_2 : List UInt8 := [184, 0, 201, 172]
abbrev dktX3_letter_2 : List UInt8 := dkwX3_letter_2 ++ []
def dkwX3_letter_1 : List UInt8 := [184, 0, 134, 4, 100, 184, 0, 111, 154, 0, 9, 42, 4, 182, 0, 141, 172, 42, 27, 28, 182, 0, 181, 29]
abbrev dktX3_letter_1 : List UInt8 := dkwX3_letter_1 ++ dktX3_letter_2
def dkwX3_letter_0 : List UInt8 := [42, 3, 181, 0, 100, 42, 27, 28, 182, 0, 198, 153, 0, 22, 29, 3, 42, 27, 28, 182, 0, 181]
abbrev dktX3_letter_0 : List UInt8 := dkwX3_letter_0 ++ dktX3_letter_1
theorem dksX3_letter_0 : cX3_letter.data.toList.drop 0 = dktX3_letter_0 := by decide +kernel
theorem dksX3_letter_1 : cX3_letter.data.toList.drop 22 = dktX3_letter_1 := dk_seg dksX3_letter_0 22 rfl rfl
theorem dksX3_letter_2 : cX3_letter.data.toList.drop 46 = dktX3_letter_2 := dk_seg dksX3_letter_1 24 rfl rfl
theorem dX3_letter_0 : decode cX3_letter 0 = .ok (.aload_n 0, 1) := dk_42 (dk_at dksX3_letter_0 0 rfl rfl)
theorem dX3_letter_1 : decode cX3_letter 1 = .ok (.iconst 0, 1) := dk_3 (dk_at dksX3_letter_0 1 rfl rfl)
theorem dX3_letter_2 : decode cX3_letter 2 = .ok (.putfield 100, 3) := dk_181 0 100 (dk_at dksX3_letter_0 2 rfl rfl)
theorem dX3_letter_5 : decode cX3_letter 5 = .ok (.aload_n 0, 1) := dk_42 (dk_at dksX3_letter_0 5 rfl rfl)
theorem dX3_letter_6 : decode cX3_letter 6 = .ok (.iload_n 1, 1) := dk_27 (dk_at dksX3_letter_0 6 rfl rfl)
theorem dX3_letter_7 : decode cX3_letter 7 = .ok (.iload_n 2, 1) := dk_28 (dk_at dksX3_letter_0 7 rfl rfl)
theorem dX3_letter_8 : decode cX3_letter 8 = .ok (.invokevirtual 198, 3) := dk_182 0 198 (dk_at dksX3_letter_0 8 rfl rfl)
theorem dX3_letter_11 : decode cX3_letter 11 = .ok (.ifCond .eq 22, 3) := dk_153 0 22 (dk_at dksX3_letter_0 11 rfl rfl)
theorem dX3_letter_14 : decode cX3_letter 14 = .ok (.iload_n 3, 1) := dk_29 (dk_at dksX3_letter_0 14 rfl rfl)
theorem dX3_letter_15 : decode cX3_letter 15 = .ok (.iconst 0, 1) := dk_3 (dk_at dksX3_letter_0 15 rfl rfl)
theorem dX3_letter_16 : decode cX3_letter 16 = .ok (.aload_n 0, 1) := dk_42 (dk_at dksX3_letter_0 16 rfl rfl)
theorem dX3_letter_17 : decode cX3_letter 17 = .ok (.iload_n 1, 1) := dk_27 (dk_at dksX3_letter_0 17 rfl rfl)
theorem dX3_letter_18 : decode cX3_letter 18 = .ok (.iload_n 2, 1) := dk_28 (dk_at dksX3_letter_0 18 rfl rfl)
theorem dX3_letter_19 : decode cX3_letter 19 = .ok (.invokevirtual 181, 3) := dk_182 0 181 (dk_at dksX3_letter_0 19 rfl rfl)
theorem dX3_letter_22 : decode cX3_letter 22 = .ok (.invokestatic 134, 3) := dk_184 0 134 (dk_at dksX3_letter_1 0 rfl rfl)
theorem dX3_letter_25 : decode cX3_letter 25 = .ok (.iconst 1, 1) := dk_4 (dk_at dksX3_letter_1 3 rfl rfl)
theorem dX3_letter_26 : decode cX3_letter 26 = .ok (.isub, 1) := dk_100 (dk_at dksX3_letter_1 4 rfl rfl)
theorem dX3_letter_27 : decode cX3_letter 27 = .ok (.invokestatic 111, 3) := dk_184 0 111 (dk_at dksX3_letter_1 5 rfl rfl)
theorem dX3_letter_30 : decode cX3_letter 30 = .ok (.ifCond .ne 9, 3) := dk_154 0 9 (dk_at dksX3_letter_1 8 rfl rfl)
theorem dX3_letter_33 : decode cX3_letter 33 = .ok (.aload_n 0, 1) := dk_42 (dk_at dksX3_letter_1 11 rfl rfl)
theorem dX3_letter_34 : decode cX3_letter 34 = .ok (.iconst 1, 1) := dk_4 (dk_at dksX3_letter_1 12 rfl rfl)
theorem dX3_letter_35 : decode cX3_letter 35 = .ok (.invokevirtual 141, 3) := dk_182 0 141 (dk_at dksX3_letter_1 13 rfl rfl)
theorem dX3_letter_38 : decode cX3_letter 38 = .ok (.ireturn, 1) := dk_172 (dk_at dksX3_letter_1 16 rfl rfl)
theorem dX3_letter_39 : decode cX3_letter 39 = .ok (.aload_n 0, 1) := dk_42 (dk_at dksX3_letter_1 17 rfl rfl)
theorem dX3_letter_40 : decode cX3_letter 40 = .ok (.iload_n 1, 1) := dk_27 (dk_at dksX3_letter_1 18 rfl rfl)
theorem dX3_letter_41 : decode cX3_letter 41 = .ok (.iload_n 2, 1) := dk_28 (dk_at dksX3_letter_1 19 rfl rfl)
theorem dX3_letter_42 : decode cX3_letter 42 = .ok (.invokevirtual 181, 3) := dk_182 0 181 (dk_at dksX3_letter_1 20 rfl rfl)
theorem dX3_letter_45 : decode cX3_letter 45 = .ok (.iload_n 3, 1) := dk_29 (dk_at dksX3_letter_1 23 rfl rfl)
theorem dX3_letter_46 : decode cX3_letter 46 = .ok (.invokestatic 201, 3) := dk_184 0 201 (dk_at dksX3_letter_2 0 rfl rfl)
theorem dX3_letter_49 : decode cX3_letter 49 = .ok (.ireturn, 1) := dk_172 (dk_at dksX3_letter_2 3 rfl rfl)
abbrev cX3_letterOf : ByteArray := prog_16_method_23_code
def yX3_letterOf : MethodName := ⟨RX3, "letterOf", "(JI)I"⟩
def dkwX3_letterOf_1 : List UInt8 := [132, 5, 255, 167, 255, 241, 33, 20, 0, 132, 113, 136, 16, 96, 96, 172]
abbrev dktX3_letterOf_1 : List UInt8 := dkwX3_letterOf_1 ++ []
def dkwX3_letterOf_0 : List UInt8 := [30, 66, 30, 184, 0, 134, 4, 100, 54, 5, 21, 5, 28, 164, 0, 15, 33, 20, 0, 132, 109, 66]
abbrev dktX3_letterOf_0 : List UInt8 := dkwX3_letterOf_0 ++ dktX3_letterOf_1
theorem dksX3_letterOf_0 : cX3_letterOf.data.toList.drop 0 = dktX3_letterOf_0 := by decide +kernel
theorem dksX3_letterOf_1 : cX3_letterOf.data.toList.drop 22 = dktX3_letterOf_1 := dk_seg dksX3_letterOf_0 22 rfl rfl
theorem dX3_letterOf_0 : decode cX3_letterOf 0 = .ok (.lload_n 0, 1) := dk_30 (dk_at dksX3_letterOf_0 0 rfl rfl)
theorem dX3_letterOf_1 : decode cX3_letterOf 1 = .ok (.lstore_n 3, 1) := dk_66 (dk_at dksX3_letterOf_0 1 rfl rfl)
theorem dX3_letterOf_2 : decode cX3_letterOf 2 = .ok (.lload_n 0, 1) := dk_30 (dk_at dksX3_letterOf_0 2 rfl rfl)
theorem dX3_letterOf_3 : decode cX3_letterOf 3 = .ok (.invokestatic 134, 3) := dk_184 0 134 (dk_at dksX3_letterOf_0 3 rfl rfl)
theorem dX3_letterOf_6 : decode cX3_letterOf 6 = .ok (.iconst 1, 1) := dk_4 (dk_at dksX3_letterOf_0 6 rfl rfl)
theorem dX3_letterOf_7 : decode cX3_letterOf 7 = .ok (.isub, 1) := dk_100 (dk_at dksX3_letterOf_0 7 rfl rfl)
theorem dX3_letterOf_8 : decode cX3_letterOf 8 = .ok (.istore 5, 2) := dk_54 5 (dk_at dksX3_letterOf_0 8 rfl rfl)
theorem dX3_letterOf_10 : decode cX3_letterOf 10 = .ok (.iload 5, 2) := dk_21 5 (dk_at dksX3_letterOf_0 10 rfl rfl)
theorem dX3_letterOf_12 : decode cX3_letterOf 12 = .ok (.iload_n 2, 1) := dk_28 (dk_at dksX3_letterOf_0 12 rfl rfl)
theorem dX3_letterOf_13 : decode cX3_letterOf 13 = .ok (.if_icmp .le 15, 3) := dk_164 0 15 (dk_at dksX3_letterOf_0 13 rfl rfl)
theorem dX3_letterOf_16 : decode cX3_letterOf 16 = .ok (.lload_n 3, 1) := dk_33 (dk_at dksX3_letterOf_0 16 rfl rfl)
theorem dX3_letterOf_17 : decode cX3_letterOf 17 = .ok (.ldc2_w 132, 3) := dk_20 0 132 (dk_at dksX3_letterOf_0 17 rfl rfl)
theorem dX3_letterOf_20 : decode cX3_letterOf 20 = .ok (.ldiv, 1) := dk_109 (dk_at dksX3_letterOf_0 20 rfl rfl)
theorem dX3_letterOf_21 : decode cX3_letterOf 21 = .ok (.lstore_n 3, 1) := dk_66 (dk_at dksX3_letterOf_0 21 rfl rfl)
theorem dX3_letterOf_22 : decode cX3_letterOf 22 = .ok (.iinc 5 (-1), 3) := dk_132 5 255 (dk_at dksX3_letterOf_1 0 rfl rfl)
theorem dX3_letterOf_25 : decode cX3_letterOf 25 = .ok (.goto (-15), 3) := dk_167 255 241 (dk_at dksX3_letterOf_1 3 rfl rfl)
theorem dX3_letterOf_28 : decode cX3_letterOf 28 = .ok (.lload_n 3, 1) := dk_33 (dk_at dksX3_letterOf_1 6 rfl rfl)
theorem dX3_letterOf_29 : decode cX3_letterOf 29 = .ok (.ldc2_w 132, 3) := dk_20 0 132 (dk_at dksX3_letterOf_1 7 rfl rfl)
theorem dX3_letterOf_32 : decode cX3_letterOf 32 = .ok (.lrem, 1) := dk_113 (dk_at dksX3_letterOf_1 10 rfl rfl)
theorem dX3_letterOf_33 : decode cX3_letterOf 33 = .ok (.l2i, 1) := dk_136 (dk_at dksX3_letterOf_1 11 rfl rfl)
theorem dX3_letterOf_34 : decode cX3_letterOf 34 = .ok (.bipush 96, 2) := dk_16 96 (dk_at dksX3_letterOf_1 12 rfl rfl)
theorem dX3_letterOf_36 : decode cX3_letterOf 36 = .ok (.iadd, 1) := dk_96 (dk_at dksX3_letterOf_1 14 rfl rfl)
theorem dX3_letterOf_37 : decode cX3_letterOf 37 = .ok (.ireturn, 1) := dk_172 (dk_at dksX3_letterOf_1 15 rfl rfl)
abbrev cX3_insertWord : ByteArray := prog_16_method_45_code
def yX3_insertWord : MethodName := ⟨RX3, "insertWord", "(II)I"⟩
def dkwX3_insertWord_6 : List UInt8 := [172]
abbrev dktX3_insertWord_6 : List UInt8 := dkwX3_insertWord_6 ++ []
def dkwX3_insertWord_5 : List UInt8 := [27, 4, 184, 0, 129, 96, 3, 79, 42, 27, 28, 182, 0, 212, 42, 3, 181, 0, 138, 42, 27, 182, 0, 119]
abbrev dktX3_insertWord_5 : List UInt8 := dkwX3_insertWord_5 ++ dktX3_insertWord_6
def dkwX3_insertWord_4 : List UInt8 := [184, 0, 129, 96, 28, 154, 0, 7, 4, 167, 0, 4, 3, 79, 28, 154, 0, 17, 42, 180, 0, 7, 16, 14]
abbrev dktX3_insertWord_4 : List UInt8 := dkwX3_insertWord_4 ++ dktX3_insertWord_5
def dkwX3_insertWord_3 : List UInt8 := [180, 0, 19, 27, 28, 184, 0, 129, 42, 180, 0, 36, 3, 47, 80, 42, 180, 0, 7, 16, 14, 27, 28]
abbrev dktX3_insertWord_3 : List UInt8 := dkwX3_insertWord_3 ++ dktX3_insertWord_4
def dkwX3_insertWord_2 : List UInt8 := [42, 27, 182, 0, 119, 16, 120, 160, 0, 9, 42, 6, 182, 0, 141, 172, 42, 27, 28, 182, 0, 208, 42]
abbrev dktX3_insertWord_2 : List UInt8 := dkwX3_insertWord_2 ++ dktX3_insertWord_3
def dkwX3_insertWord_1 : List UInt8 := [154, 0, 9, 42, 4, 182, 0, 141, 172, 42, 4, 4, 182, 0, 171, 154, 0, 9, 42, 5, 182, 0, 141, 172]
abbrev dktX3_insertWord_1 : List UInt8 := dkwX3_insertWord_1 ++ dktX3_insertWord_2
def dkwX3_insertWord_0 : List UInt8 := [42, 3, 181, 0, 100, 42, 27, 182, 0, 115, 153, 0, 16, 28, 3, 42, 27, 182, 0, 119, 184, 0, 111]
abbrev dktX3_insertWord_0 : List UInt8 := dkwX3_insertWord_0 ++ dktX3_insertWord_1
theorem dksX3_insertWord_0 : cX3_insertWord.data.toList.drop 0 = dktX3_insertWord_0 := by decide +kernel
theorem dksX3_insertWord_1 : cX3_insertWord.data.toList.drop 23 = dktX3_insertWord_1 := dk_seg dksX3_insertWord_0 23 rfl rfl
theorem dksX3_insertWord_2 : cX3_insertWord.data.toList.drop 47 = dktX3_insertWord_2 := dk_seg dksX3_insertWord_1 24 rfl rfl
theorem dksX3_insertWord_3 : cX3_insertWord.data.toList.drop 70 = dktX3_insertWord_3 := dk_seg dksX3_insertWord_2 23 rfl rfl
theorem dksX3_insertWord_4 : cX3_insertWord.data.toList.drop 93 = dktX3_insertWord_4 := dk_seg dksX3_insertWord_3 23 rfl rfl
theorem dksX3_insertWord_5 : cX3_insertWord.data.toList.drop 117 = dktX3_insertWord_5 := dk_seg dksX3_insertWord_4 24 rfl rfl
theorem dksX3_insertWord_6 : cX3_insertWord.data.toList.drop 141 = dktX3_insertWord_6 := dk_seg dksX3_insertWord_5 24 rfl rfl
theorem dX3_insertWord_0 : decode cX3_insertWord 0 = .ok (.aload_n 0, 1) := dk_42 (dk_at dksX3_insertWord_0 0 rfl rfl)
theorem dX3_insertWord_1 : decode cX3_insertWord 1 = .ok (.iconst 0, 1) := dk_3 (dk_at dksX3_insertWord_0 1 rfl rfl)
theorem dX3_insertWord_2 : decode cX3_insertWord 2 = .ok (.putfield 100, 3) := dk_181 0 100 (dk_at dksX3_insertWord_0 2 rfl rfl)
theorem dX3_insertWord_5 : decode cX3_insertWord 5 = .ok (.aload_n 0, 1) := dk_42 (dk_at dksX3_insertWord_0 5 rfl rfl)
theorem dX3_insertWord_6 : decode cX3_insertWord 6 = .ok (.iload_n 1, 1) := dk_27 (dk_at dksX3_insertWord_0 6 rfl rfl)
theorem dX3_insertWord_7 : decode cX3_insertWord 7 = .ok (.invokevirtual 115, 3) := dk_182 0 115 (dk_at dksX3_insertWord_0 7 rfl rfl)
theorem dX3_insertWord_10 : decode cX3_insertWord 10 = .ok (.ifCond .eq 16, 3) := dk_153 0 16 (dk_at dksX3_insertWord_0 10 rfl rfl)
theorem dX3_insertWord_13 : decode cX3_insertWord 13 = .ok (.iload_n 2, 1) := dk_28 (dk_at dksX3_insertWord_0 13 rfl rfl)
theorem dX3_insertWord_14 : decode cX3_insertWord 14 = .ok (.iconst 0, 1) := dk_3 (dk_at dksX3_insertWord_0 14 rfl rfl)
theorem dX3_insertWord_15 : decode cX3_insertWord 15 = .ok (.aload_n 0, 1) := dk_42 (dk_at dksX3_insertWord_0 15 rfl rfl)
theorem dX3_insertWord_16 : decode cX3_insertWord 16 = .ok (.iload_n 1, 1) := dk_27 (dk_at dksX3_insertWord_0 16 rfl rfl)
theorem dX3_insertWord_17 : decode cX3_insertWord 17 = .ok (.invokevirtual 119, 3) := dk_182 0 119 (dk_at dksX3_insertWord_0 17 rfl rfl)
theorem dX3_insertWord_20 : decode cX3_insertWord 20 = .ok (.invokestatic 111, 3) := dk_184 0 111 (dk_at dksX3_insertWord_0 20 rfl rfl)
theorem dX3_insertWord_23 : decode cX3_insertWord 23 = .ok (.ifCond .ne 9, 3) := dk_154 0 9 (dk_at dksX3_insertWord_1 0 rfl rfl)
theorem dX3_insertWord_26 : decode cX3_insertWord 26 = .ok (.aload_n 0, 1) := dk_42 (dk_at dksX3_insertWord_1 3 rfl rfl)
theorem dX3_insertWord_27 : decode cX3_insertWord 27 = .ok (.iconst 1, 1) := dk_4 (dk_at dksX3_insertWord_1 4 rfl rfl)
theorem dX3_insertWord_28 : decode cX3_insertWord 28 = .ok (.invokevirtual 141, 3) := dk_182 0 141 (dk_at dksX3_insertWord_1 5 rfl rfl)
theorem dX3_insertWord_31 : decode cX3_insertWord 31 = .ok (.ireturn, 1) := dk_172 (dk_at dksX3_insertWord_1 8 rfl rfl)
theorem dX3_insertWord_32 : decode cX3_insertWord 32 = .ok (.aload_n 0, 1) := dk_42 (dk_at dksX3_insertWord_1 9 rfl rfl)
theorem dX3_insertWord_33 : decode cX3_insertWord 33 = .ok (.iconst 1, 1) := dk_4 (dk_at dksX3_insertWord_1 10 rfl rfl)
theorem dX3_insertWord_34 : decode cX3_insertWord 34 = .ok (.iconst 1, 1) := dk_4 (dk_at dksX3_insertWord_1 11 rfl rfl)
theorem dX3_insertWord_35 : decode cX3_insertWord 35 = .ok (.invokevirtual 171, 3) := dk_182 0 171 (dk_at dksX3_insertWord_1 12 rfl rfl)
theorem dX3_insertWord_38 : decode cX3_insertWord 38 = .ok (.ifCond .ne 9, 3) := dk_154 0 9 (dk_at dksX3_insertWord_1 15 rfl rfl)
theorem dX3_insertWord_41 : decode cX3_insertWord 41 = .ok (.aload_n 0, 1) := dk_42 (dk_at dksX3_insertWord_1 18 rfl rfl)
theorem dX3_insertWord_42 : decode cX3_insertWord 42 = .ok (.iconst 2, 1) := dk_5 (dk_at dksX3_insertWord_1 19 rfl rfl)
theorem dX3_insertWord_43 : decode cX3_insertWord 43 = .ok (.invokevirtual 141, 3) := dk_182 0 141 (dk_at dksX3_insertWord_1 20 rfl rfl)
theorem dX3_insertWord_46 : decode cX3_insertWord 46 = .ok (.ireturn, 1) := dk_172 (dk_at dksX3_insertWord_1 23 rfl rfl)
theorem dX3_insertWord_47 : decode cX3_insertWord 47 = .ok (.aload_n 0, 1) := dk_42 (dk_at dksX3_insertWord_2 0 rfl rfl)
theorem dX3_insertWord_48 : decode cX3_insertWord 48 = .ok (.iload_n 1, 1) := dk_27 (dk_at dksX3_insertWord_2 1 rfl rfl)
theorem dX3_insertWord_49 : decode cX3_insertWord 49 = .ok (.invokevirtual 119, 3) := dk_182 0 119 (dk_at dksX3_insertWord_2 2 rfl rfl)
theorem dX3_insertWord_52 : decode cX3_insertWord 52 = .ok (.bipush 120, 2) := dk_16 120 (dk_at dksX3_insertWord_2 5 rfl rfl)
theorem dX3_insertWord_54 : decode cX3_insertWord 54 = .ok (.if_icmp .ne 9, 3) := dk_160 0 9 (dk_at dksX3_insertWord_2 7 rfl rfl)
theorem dX3_insertWord_57 : decode cX3_insertWord 57 = .ok (.aload_n 0, 1) := dk_42 (dk_at dksX3_insertWord_2 10 rfl rfl)
theorem dX3_insertWord_58 : decode cX3_insertWord 58 = .ok (.iconst 3, 1) := dk_6 (dk_at dksX3_insertWord_2 11 rfl rfl)
theorem dX3_insertWord_59 : decode cX3_insertWord 59 = .ok (.invokevirtual 141, 3) := dk_182 0 141 (dk_at dksX3_insertWord_2 12 rfl rfl)
theorem dX3_insertWord_62 : decode cX3_insertWord 62 = .ok (.ireturn, 1) := dk_172 (dk_at dksX3_insertWord_2 15 rfl rfl)
theorem dX3_insertWord_63 : decode cX3_insertWord 63 = .ok (.aload_n 0, 1) := dk_42 (dk_at dksX3_insertWord_2 16 rfl rfl)
theorem dX3_insertWord_64 : decode cX3_insertWord 64 = .ok (.iload_n 1, 1) := dk_27 (dk_at dksX3_insertWord_2 17 rfl rfl)
theorem dX3_insertWord_65 : decode cX3_insertWord 65 = .ok (.iload_n 2, 1) := dk_28 (dk_at dksX3_insertWord_2 18 rfl rfl)
theorem dX3_insertWord_66 : decode cX3_insertWord 66 = .ok (.invokevirtual 208, 3) := dk_182 0 208 (dk_at dksX3_insertWord_2 19 rfl rfl)
theorem dX3_insertWord_69 : decode cX3_insertWord 69 = .ok (.aload_n 0, 1) := dk_42 (dk_at dksX3_insertWord_2 22 rfl rfl)
theorem dX3_insertWord_70 : decode cX3_insertWord 70 = .ok (.getfield 19, 3) := dk_180 0 19 (dk_at dksX3_insertWord_3 0 rfl rfl)
theorem dX3_insertWord_73 : decode cX3_insertWord 73 = .ok (.iload_n 1, 1) := dk_27 (dk_at dksX3_insertWord_3 3 rfl rfl)
theorem dX3_insertWord_74 : decode cX3_insertWord 74 = .ok (.iload_n 2, 1) := dk_28 (dk_at dksX3_insertWord_3 4 rfl rfl)
theorem dX3_insertWord_75 : decode cX3_insertWord 75 = .ok (.invokestatic 129, 3) := dk_184 0 129 (dk_at dksX3_insertWord_3 5 rfl rfl)
theorem dX3_insertWord_78 : decode cX3_insertWord 78 = .ok (.aload_n 0, 1) := dk_42 (dk_at dksX3_insertWord_3 8 rfl rfl)
theorem dX3_insertWord_79 : decode cX3_insertWord 79 = .ok (.getfield 36, 3) := dk_180 0 36 (dk_at dksX3_insertWord_3 9 rfl rfl)
theorem dX3_insertWord_82 : decode cX3_insertWord 82 = .ok (.iconst 0, 1) := dk_3 (dk_at dksX3_insertWord_3 12 rfl rfl)
theorem dX3_insertWord_83 : decode cX3_insertWord 83 = .ok (.laload, 1) := dk_47 (dk_at dksX3_insertWord_3 13 rfl rfl)
theorem dX3_insertWord_84 : decode cX3_insertWord 84 = .ok (.lastore, 1) := dk_80 (dk_at dksX3_insertWord_3 14 rfl rfl)
theorem dX3_insertWord_85 : decode cX3_insertWord 85 = .ok (.aload_n 0, 1) := dk_42 (dk_at dksX3_insertWord_3 15 rfl rfl)
theorem dX3_insertWord_86 : decode cX3_insertWord 86 = .ok (.getfield 7, 3) := dk_180 0 7 (dk_at dksX3_insertWord_3 16 rfl rfl)
theorem dX3_insertWord_89 : decode cX3_insertWord 89 = .ok (.bipush 14, 2) := dk_16 14 (dk_at dksX3_insertWord_3 19 rfl rfl)
theorem dX3_insertWord_91 : decode cX3_insertWord 91 = .ok (.iload_n 1, 1) := dk_27 (dk_at dksX3_insertWord_3 21 rfl rfl)
theorem dX3_insertWord_92 : decode cX3_insertWord 92 = .ok (.iload_n 2, 1) := dk_28 (dk_at dksX3_insertWord_3 22 rfl rfl)
theorem dX3_insertWord_93 : decode cX3_insertWord 93 = .ok (.invokestatic 129, 3) := dk_184 0 129 (dk_at dksX3_insertWord_4 0 rfl rfl)
theorem dX3_insertWord_96 : decode cX3_insertWord 96 = .ok (.iadd, 1) := dk_96 (dk_at dksX3_insertWord_4 3 rfl rfl)
theorem dX3_insertWord_97 : decode cX3_insertWord 97 = .ok (.iload_n 2, 1) := dk_28 (dk_at dksX3_insertWord_4 4 rfl rfl)
theorem dX3_insertWord_98 : decode cX3_insertWord 98 = .ok (.ifCond .ne 7, 3) := dk_154 0 7 (dk_at dksX3_insertWord_4 5 rfl rfl)
theorem dX3_insertWord_101 : decode cX3_insertWord 101 = .ok (.iconst 1, 1) := dk_4 (dk_at dksX3_insertWord_4 8 rfl rfl)
theorem dX3_insertWord_102 : decode cX3_insertWord 102 = .ok (.goto 4, 3) := dk_167 0 4 (dk_at dksX3_insertWord_4 9 rfl rfl)
theorem dX3_insertWord_105 : decode cX3_insertWord 105 = .ok (.iconst 0, 1) := dk_3 (dk_at dksX3_insertWord_4 12 rfl rfl)
theorem dX3_insertWord_106 : decode cX3_insertWord 106 = .ok (.iastore, 1) := dk_79 (dk_at dksX3_insertWord_4 13 rfl rfl)
theorem dX3_insertWord_107 : decode cX3_insertWord 107 = .ok (.iload_n 2, 1) := dk_28 (dk_at dksX3_insertWord_4 14 rfl rfl)
theorem dX3_insertWord_108 : decode cX3_insertWord 108 = .ok (.ifCond .ne 17, 3) := dk_154 0 17 (dk_at dksX3_insertWord_4 15 rfl rfl)
theorem dX3_insertWord_111 : decode cX3_insertWord 111 = .ok (.aload_n 0, 1) := dk_42 (dk_at dksX3_insertWord_4 18 rfl rfl)
theorem dX3_insertWord_112 : decode cX3_insertWord 112 = .ok (.getfield 7, 3) := dk_180 0 7 (dk_at dksX3_insertWord_4 19 rfl rfl)
theorem dX3_insertWord_115 : decode cX3_insertWord 115 = .ok (.bipush 14, 2) := dk_16 14 (dk_at dksX3_insertWord_4 22 rfl rfl)
theorem dX3_insertWord_117 : decode cX3_insertWord 117 = .ok (.iload_n 1, 1) := dk_27 (dk_at dksX3_insertWord_5 0 rfl rfl)
theorem dX3_insertWord_118 : decode cX3_insertWord 118 = .ok (.iconst 1, 1) := dk_4 (dk_at dksX3_insertWord_5 1 rfl rfl)
theorem dX3_insertWord_119 : decode cX3_insertWord 119 = .ok (.invokestatic 129, 3) := dk_184 0 129 (dk_at dksX3_insertWord_5 2 rfl rfl)
theorem dX3_insertWord_122 : decode cX3_insertWord 122 = .ok (.iadd, 1) := dk_96 (dk_at dksX3_insertWord_5 5 rfl rfl)
theorem dX3_insertWord_123 : decode cX3_insertWord 123 = .ok (.iconst 0, 1) := dk_3 (dk_at dksX3_insertWord_5 6 rfl rfl)
theorem dX3_insertWord_124 : decode cX3_insertWord 124 = .ok (.iastore, 1) := dk_79 (dk_at dksX3_insertWord_5 7 rfl rfl)
theorem dX3_insertWord_125 : decode cX3_insertWord 125 = .ok (.aload_n 0, 1) := dk_42 (dk_at dksX3_insertWord_5 8 rfl rfl)
theorem dX3_insertWord_126 : decode cX3_insertWord 126 = .ok (.iload_n 1, 1) := dk_27 (dk_at dksX3_insertWord_5 9 rfl rfl)
theorem dX3_insertWord_127 : decode cX3_insertWord 127 = .ok (.iload_n 2, 1) := dk_28 (dk_at dksX3_insertWord_5 10 rfl rfl)
theorem dX3_insertWord_128 : decode cX3_insertWord 128 = .ok (.invokevirtual 212, 3) := dk_182 0 212 (dk_at dksX3_insertWord_5 11 rfl rfl)
theorem dX3_insertWord_131 : decode cX3_insertWord 131 = .ok (.aload_n 0, 1) := dk_42 (dk_at dksX3_insertWord_5 14 rfl rfl)
theorem dX3_insertWord_132 : decode cX3_insertWord 132 = .ok (.iconst 0, 1) := dk_3 (dk_at dksX3_insertWord_5 15 rfl rfl)
theorem dX3_insertWord_133 : decode cX3_insertWord 133 = .ok (.putfield 138, 3) := dk_181 0 138 (dk_at dksX3_insertWord_5 16 rfl rfl)
theorem dX3_insertWord_136 : decode cX3_insertWord 136 = .ok (.aload_n 0, 1) := dk_42 (dk_at dksX3_insertWord_5 19 rfl rfl)
theorem dX3_insertWord_137 : decode cX3_insertWord 137 = .ok (.iload_n 1, 1) := dk_27 (dk_at dksX3_insertWord_5 20 rfl rfl)
theorem dX3_insertWord_138 : decode cX3_insertWord 138 = .ok (.invokevirtual 119, 3) := dk_182 0 119 (dk_at dksX3_insertWord_5 21 rfl rfl)
theorem dX3_insertWord_141 : decode cX3_insertWord 141 = .ok (.ireturn, 1) := dk_172 (dk_at dksX3_insertWord_6 0 rfl rfl)
abbrev cX3_openPlace : ByteArray := prog_16_method_44_code
def yX3_openPlace : MethodName := ⟨RX3, "openPlace", "(II)V"⟩
def dkwX3_openPlace_3 : List UInt8 := [3, 96, 92, 46, 4, 96, 79, 177]
abbrev dktX3_openPlace_3 : List UInt8 := dkwX3_openPlace_3 ++ []
def dkwX3_openPlace_2 : List UInt8 := [29, 4, 100, 184, 0, 129, 96, 46, 79, 132, 3, 255, 167, 255, 202, 42, 180, 0, 7, 8, 6, 27, 104, 96]
abbrev dktX3_openPlace_2 : List UInt8 := dkwX3_openPlace_2 ++ dktX3_openPlace_3
def dkwX3_openPlace_1 : List UInt8 := [100, 182, 0, 181, 80, 42, 180, 0, 7, 16, 14, 27, 29, 184, 0, 129, 96, 42, 180, 0, 7, 16, 14, 27]
abbrev dktX3_openPlace_1 : List UInt8 := dkwX3_openPlace_1 ++ dktX3_openPlace_2
def dkwX3_openPlace_0 : List UInt8 := [42, 27, 182, 0, 119, 62, 29, 28, 164, 0, 55, 42, 180, 0, 19, 27, 29, 184, 0, 129, 42, 27, 29, 4]
abbrev dktX3_openPlace_0 : List UInt8 := dkwX3_openPlace_0 ++ dktX3_openPlace_1
theorem dksX3_openPlace_0 : cX3_openPlace.data.toList.drop 0 = dktX3_openPlace_0 := by decide +kernel
theorem dksX3_openPlace_1 : cX3_openPlace.data.toList.drop 24 = dktX3_openPlace_1 := dk_seg dksX3_openPlace_0 24 rfl rfl
theorem dksX3_openPlace_2 : cX3_openPlace.data.toList.drop 48 = dktX3_openPlace_2 := dk_seg dksX3_openPlace_1 24 rfl rfl
theorem dksX3_openPlace_3 : cX3_openPlace.data.toList.drop 72 = dktX3_openPlace_3 := dk_seg dksX3_openPlace_2 24 rfl rfl
theorem dX3_openPlace_0 : decode cX3_openPlace 0 = .ok (.aload_n 0, 1) := dk_42 (dk_at dksX3_openPlace_0 0 rfl rfl)
theorem dX3_openPlace_1 : decode cX3_openPlace 1 = .ok (.iload_n 1, 1) := dk_27 (dk_at dksX3_openPlace_0 1 rfl rfl)
theorem dX3_openPlace_2 : decode cX3_openPlace 2 = .ok (.invokevirtual 119, 3) := dk_182 0 119 (dk_at dksX3_openPlace_0 2 rfl rfl)
theorem dX3_openPlace_5 : decode cX3_openPlace 5 = .ok (.istore_n 3, 1) := dk_62 (dk_at dksX3_openPlace_0 5 rfl rfl)
theorem dX3_openPlace_6 : decode cX3_openPlace 6 = .ok (.iload_n 3, 1) := dk_29 (dk_at dksX3_openPlace_0 6 rfl rfl)
theorem dX3_openPlace_7 : decode cX3_openPlace 7 = .ok (.iload_n 2, 1) := dk_28 (dk_at dksX3_openPlace_0 7 rfl rfl)
theorem dX3_openPlace_8 : decode cX3_openPlace 8 = .ok (.if_icmp .le 55, 3) := dk_164 0 55 (dk_at dksX3_openPlace_0 8 rfl rfl)
theorem dX3_openPlace_11 : decode cX3_openPlace 11 = .ok (.aload_n 0, 1) := dk_42 (dk_at dksX3_openPlace_0 11 rfl rfl)
theorem dX3_openPlace_12 : decode cX3_openPlace 12 = .ok (.getfield 19, 3) := dk_180 0 19 (dk_at dksX3_openPlace_0 12 rfl rfl)
theorem dX3_openPlace_15 : decode cX3_openPlace 15 = .ok (.iload_n 1, 1) := dk_27 (dk_at dksX3_openPlace_0 15 rfl rfl)
theorem dX3_openPlace_16 : decode cX3_openPlace 16 = .ok (.iload_n 3, 1) := dk_29 (dk_at dksX3_openPlace_0 16 rfl rfl)
theorem dX3_openPlace_17 : decode cX3_openPlace 17 = .ok (.invokestatic 129, 3) := dk_184 0 129 (dk_at dksX3_openPlace_0 17 rfl rfl)
theorem dX3_openPlace_20 : decode cX3_openPlace 20 = .ok (.aload_n 0, 1) := dk_42 (dk_at dksX3_openPlace_0 20 rfl rfl)
theorem dX3_openPlace_21 : decode cX3_openPlace 21 = .ok (.iload_n 1, 1) := dk_27 (dk_at dksX3_openPlace_0 21 rfl rfl)
theorem dX3_openPlace_22 : decode cX3_openPlace 22 = .ok (.iload_n 3, 1) := dk_29 (dk_at dksX3_openPlace_0 22 rfl rfl)
theorem dX3_openPlace_23 : decode cX3_openPlace 23 = .ok (.iconst 1, 1) := dk_4 (dk_at dksX3_openPlace_0 23 rfl rfl)
theorem dX3_openPlace_24 : decode cX3_openPlace 24 = .ok (.isub, 1) := dk_100 (dk_at dksX3_openPlace_1 0 rfl rfl)
theorem dX3_openPlace_25 : decode cX3_openPlace 25 = .ok (.invokevirtual 181, 3) := dk_182 0 181 (dk_at dksX3_openPlace_1 1 rfl rfl)
theorem dX3_openPlace_28 : decode cX3_openPlace 28 = .ok (.lastore, 1) := dk_80 (dk_at dksX3_openPlace_1 4 rfl rfl)
theorem dX3_openPlace_29 : decode cX3_openPlace 29 = .ok (.aload_n 0, 1) := dk_42 (dk_at dksX3_openPlace_1 5 rfl rfl)
theorem dX3_openPlace_30 : decode cX3_openPlace 30 = .ok (.getfield 7, 3) := dk_180 0 7 (dk_at dksX3_openPlace_1 6 rfl rfl)
theorem dX3_openPlace_33 : decode cX3_openPlace 33 = .ok (.bipush 14, 2) := dk_16 14 (dk_at dksX3_openPlace_1 9 rfl rfl)
theorem dX3_openPlace_35 : decode cX3_openPlace 35 = .ok (.iload_n 1, 1) := dk_27 (dk_at dksX3_openPlace_1 11 rfl rfl)
theorem dX3_openPlace_36 : decode cX3_openPlace 36 = .ok (.iload_n 3, 1) := dk_29 (dk_at dksX3_openPlace_1 12 rfl rfl)
theorem dX3_openPlace_37 : decode cX3_openPlace 37 = .ok (.invokestatic 129, 3) := dk_184 0 129 (dk_at dksX3_openPlace_1 13 rfl rfl)
theorem dX3_openPlace_40 : decode cX3_openPlace 40 = .ok (.iadd, 1) := dk_96 (dk_at dksX3_openPlace_1 16 rfl rfl)
theorem dX3_openPlace_41 : decode cX3_openPlace 41 = .ok (.aload_n 0, 1) := dk_42 (dk_at dksX3_openPlace_1 17 rfl rfl)
theorem dX3_openPlace_42 : decode cX3_openPlace 42 = .ok (.getfield 7, 3) := dk_180 0 7 (dk_at dksX3_openPlace_1 18 rfl rfl)
theorem dX3_openPlace_45 : decode cX3_openPlace 45 = .ok (.bipush 14, 2) := dk_16 14 (dk_at dksX3_openPlace_1 21 rfl rfl)
theorem dX3_openPlace_47 : decode cX3_openPlace 47 = .ok (.iload_n 1, 1) := dk_27 (dk_at dksX3_openPlace_1 23 rfl rfl)
theorem dX3_openPlace_48 : decode cX3_openPlace 48 = .ok (.iload_n 3, 1) := dk_29 (dk_at dksX3_openPlace_2 0 rfl rfl)
theorem dX3_openPlace_49 : decode cX3_openPlace 49 = .ok (.iconst 1, 1) := dk_4 (dk_at dksX3_openPlace_2 1 rfl rfl)
theorem dX3_openPlace_50 : decode cX3_openPlace 50 = .ok (.isub, 1) := dk_100 (dk_at dksX3_openPlace_2 2 rfl rfl)
theorem dX3_openPlace_51 : decode cX3_openPlace 51 = .ok (.invokestatic 129, 3) := dk_184 0 129 (dk_at dksX3_openPlace_2 3 rfl rfl)
theorem dX3_openPlace_54 : decode cX3_openPlace 54 = .ok (.iadd, 1) := dk_96 (dk_at dksX3_openPlace_2 6 rfl rfl)
theorem dX3_openPlace_55 : decode cX3_openPlace 55 = .ok (.iaload, 1) := dk_46 (dk_at dksX3_openPlace_2 7 rfl rfl)
theorem dX3_openPlace_56 : decode cX3_openPlace 56 = .ok (.iastore, 1) := dk_79 (dk_at dksX3_openPlace_2 8 rfl rfl)
theorem dX3_openPlace_57 : decode cX3_openPlace 57 = .ok (.iinc 3 (-1), 3) := dk_132 3 255 (dk_at dksX3_openPlace_2 9 rfl rfl)
theorem dX3_openPlace_60 : decode cX3_openPlace 60 = .ok (.goto (-54), 3) := dk_167 255 202 (dk_at dksX3_openPlace_2 12 rfl rfl)
theorem dX3_openPlace_63 : decode cX3_openPlace 63 = .ok (.aload_n 0, 1) := dk_42 (dk_at dksX3_openPlace_2 15 rfl rfl)
theorem dX3_openPlace_64 : decode cX3_openPlace 64 = .ok (.getfield 7, 3) := dk_180 0 7 (dk_at dksX3_openPlace_2 16 rfl rfl)
theorem dX3_openPlace_67 : decode cX3_openPlace 67 = .ok (.iconst 5, 1) := dk_8 (dk_at dksX3_openPlace_2 19 rfl rfl)
theorem dX3_openPlace_68 : decode cX3_openPlace 68 = .ok (.iconst 3, 1) := dk_6 (dk_at dksX3_openPlace_2 20 rfl rfl)
theorem dX3_openPlace_69 : decode cX3_openPlace 69 = .ok (.iload_n 1, 1) := dk_27 (dk_at dksX3_openPlace_2 21 rfl rfl)
theorem dX3_openPlace_70 : decode cX3_openPlace 70 = .ok (.imul, 1) := dk_104 (dk_at dksX3_openPlace_2 22 rfl rfl)
theorem dX3_openPlace_71 : decode cX3_openPlace 71 = .ok (.iadd, 1) := dk_96 (dk_at dksX3_openPlace_2 23 rfl rfl)
theorem dX3_openPlace_72 : decode cX3_openPlace 72 = .ok (.iconst 0, 1) := dk_3 (dk_at dksX3_openPlace_3 0 rfl rfl)
theorem dX3_openPlace_73 : decode cX3_openPlace 73 = .ok (.iadd, 1) := dk_96 (dk_at dksX3_openPlace_3 1 rfl rfl)
theorem dX3_openPlace_74 : decode cX3_openPlace 74 = .ok (.dup2, 1) := dk_92 (dk_at dksX3_openPlace_3 2 rfl rfl)
theorem dX3_openPlace_75 : decode cX3_openPlace 75 = .ok (.iaload, 1) := dk_46 (dk_at dksX3_openPlace_3 3 rfl rfl)
theorem dX3_openPlace_76 : decode cX3_openPlace 76 = .ok (.iconst 1, 1) := dk_4 (dk_at dksX3_openPlace_3 4 rfl rfl)
theorem dX3_openPlace_77 : decode cX3_openPlace 77 = .ok (.iadd, 1) := dk_96 (dk_at dksX3_openPlace_3 5 rfl rfl)
theorem dX3_openPlace_78 : decode cX3_openPlace 78 = .ok (.iastore, 1) := dk_79 (dk_at dksX3_openPlace_3 6 rfl rfl)
theorem dX3_openPlace_79 : decode cX3_openPlace 79 = .ok (.return_, 1) := dk_177 (dk_at dksX3_openPlace_3 7 rfl rfl)
abbrev cX3_followInsertion : ByteArray := prog_16_method_43_code
def yX3_followInsertion : MethodName := ⟨RX3, "followInsertion", "(II)V"⟩
def dkwX3_followInsertion_4 : List UInt8 := [167, 255, 166, 177]
abbrev dktX3_followInsertion_4 : List UInt8 := dkwX3_followInsertion_4 ++ []
def dkwX3_followInsertion_3 : List UInt8 := [92, 46, 42, 29, 6, 182, 0, 205, 28, 161, 0, 7, 4, 167, 0, 4, 3, 96, 79, 132, 3, 1]
abbrev dktX3_followInsertion_3 : List UInt8 := dkwX3_followInsertion_3 ++ dktX3_followInsertion_4
def dkwX3_followInsertion_2 : List UInt8 := [161, 0, 7, 4, 167, 0, 4, 3, 96, 79, 42, 180, 0, 7, 17, 1, 118, 16, 6, 29, 104, 96, 6, 96]
abbrev dktX3_followInsertion_2 : List UInt8 := dkwX3_followInsertion_2 ++ dktX3_followInsertion_3
def dkwX3_followInsertion_1 : List UInt8 := [180, 0, 7, 17, 1, 118, 16, 6, 29, 104, 96, 7, 96, 92, 46, 42, 29, 7, 182, 0, 205, 28]
abbrev dktX3_followInsertion_1 : List UInt8 := dkwX3_followInsertion_1 ++ dktX3_followInsertion_2
def dkwX3_followInsertion_0 : List UInt8 := [3, 62, 29, 42, 182, 0, 126, 162, 0, 88, 42, 29, 5, 182, 0, 205, 27, 159, 0, 6, 167, 0, 69, 42]
abbrev dktX3_followInsertion_0 : List UInt8 := dkwX3_followInsertion_0 ++ dktX3_followInsertion_1
theorem dksX3_followInsertion_0 : cX3_followInsertion.data.toList.drop 0 = dktX3_followInsertion_0 := by decide +kernel
theorem dksX3_followInsertion_1 : cX3_followInsertion.data.toList.drop 24 = dktX3_followInsertion_1 := dk_seg dksX3_followInsertion_0 24 rfl rfl
theorem dksX3_followInsertion_2 : cX3_followInsertion.data.toList.drop 46 = dktX3_followInsertion_2 := dk_seg dksX3_followInsertion_1 22 rfl rfl
theorem dksX3_followInsertion_3 : cX3_followInsertion.data.toList.drop 70 = dktX3_followInsertion_3 := dk_seg dksX3_followInsertion_2 24 rfl rfl
theorem dksX3_followInsertion_4 : cX3_followInsertion.data.toList.drop 92 = dktX3_followInsertion_4 := dk_seg dksX3_followInsertion_3 22 rfl rfl
theorem dX3_followInsertion_0 : decode cX3_followInsertion 0 = .ok (.iconst 0, 1) := dk_3 (dk_at dksX3_followInsertion_0 0 rfl rfl)
theorem dX3_followInsertion_1 : decode cX3_followInsertion 1 = .ok (.istore_n 3, 1) := dk_62 (dk_at dksX3_followInsertion_0 1 rfl rfl)
theorem dX3_followInsertion_2 : decode cX3_followInsertion 2 = .ok (.iload_n 3, 1) := dk_29 (dk_at dksX3_followInsertion_0 2 rfl rfl)
theorem dX3_followInsertion_3 : decode cX3_followInsertion 3 = .ok (.aload_n 0, 1) := dk_42 (dk_at dksX3_followInsertion_0 3 rfl rfl)
theorem dX3_followInsertion_4 : decode cX3_followInsertion 4 = .ok (.invokevirtual 126, 3) := dk_182 0 126 (dk_at dksX3_followInsertion_0 4 rfl rfl)
theorem dX3_followInsertion_7 : decode cX3_followInsertion 7 = .ok (.if_icmp .ge 88, 3) := dk_162 0 88 (dk_at dksX3_followInsertion_0 7 rfl rfl)
theorem dX3_followInsertion_10 : decode cX3_followInsertion 10 = .ok (.aload_n 0, 1) := dk_42 (dk_at dksX3_followInsertion_0 10 rfl rfl)
theorem dX3_followInsertion_11 : decode cX3_followInsertion 11 = .ok (.iload_n 3, 1) := dk_29 (dk_at dksX3_followInsertion_0 11 rfl rfl)
theorem dX3_followInsertion_12 : decode cX3_followInsertion 12 = .ok (.iconst 2, 1) := dk_5 (dk_at dksX3_followInsertion_0 12 rfl rfl)
theorem dX3_followInsertion_13 : decode cX3_followInsertion 13 = .ok (.invokevirtual 205, 3) := dk_182 0 205 (dk_at dksX3_followInsertion_0 13 rfl rfl)
theorem dX3_followInsertion_16 : decode cX3_followInsertion 16 = .ok (.iload_n 1, 1) := dk_27 (dk_at dksX3_followInsertion_0 16 rfl rfl)
theorem dX3_followInsertion_17 : decode cX3_followInsertion 17 = .ok (.if_icmp .eq 6, 3) := dk_159 0 6 (dk_at dksX3_followInsertion_0 17 rfl rfl)
theorem dX3_followInsertion_20 : decode cX3_followInsertion 20 = .ok (.goto 69, 3) := dk_167 0 69 (dk_at dksX3_followInsertion_0 20 rfl rfl)
theorem dX3_followInsertion_23 : decode cX3_followInsertion 23 = .ok (.aload_n 0, 1) := dk_42 (dk_at dksX3_followInsertion_0 23 rfl rfl)
theorem dX3_followInsertion_24 : decode cX3_followInsertion 24 = .ok (.getfield 7, 3) := dk_180 0 7 (dk_at dksX3_followInsertion_1 0 rfl rfl)
theorem dX3_followInsertion_27 : decode cX3_followInsertion 27 = .ok (.sipush 374, 3) := dk_17 1 118 (dk_at dksX3_followInsertion_1 3 rfl rfl)
theorem dX3_followInsertion_30 : decode cX3_followInsertion 30 = .ok (.bipush 6, 2) := dk_16 6 (dk_at dksX3_followInsertion_1 6 rfl rfl)
theorem dX3_followInsertion_32 : decode cX3_followInsertion 32 = .ok (.iload_n 3, 1) := dk_29 (dk_at dksX3_followInsertion_1 8 rfl rfl)
theorem dX3_followInsertion_33 : decode cX3_followInsertion 33 = .ok (.imul, 1) := dk_104 (dk_at dksX3_followInsertion_1 9 rfl rfl)
theorem dX3_followInsertion_34 : decode cX3_followInsertion 34 = .ok (.iadd, 1) := dk_96 (dk_at dksX3_followInsertion_1 10 rfl rfl)
theorem dX3_followInsertion_35 : decode cX3_followInsertion 35 = .ok (.iconst 4, 1) := dk_7 (dk_at dksX3_followInsertion_1 11 rfl rfl)
theorem dX3_followInsertion_36 : decode cX3_followInsertion 36 = .ok (.iadd, 1) := dk_96 (dk_at dksX3_followInsertion_1 12 rfl rfl)
theorem dX3_followInsertion_37 : decode cX3_followInsertion 37 = .ok (.dup2, 1) := dk_92 (dk_at dksX3_followInsertion_1 13 rfl rfl)
theorem dX3_followInsertion_38 : decode cX3_followInsertion 38 = .ok (.iaload, 1) := dk_46 (dk_at dksX3_followInsertion_1 14 rfl rfl)
theorem dX3_followInsertion_39 : decode cX3_followInsertion 39 = .ok (.aload_n 0, 1) := dk_42 (dk_at dksX3_followInsertion_1 15 rfl rfl)
theorem dX3_followInsertion_40 : decode cX3_followInsertion 40 = .ok (.iload_n 3, 1) := dk_29 (dk_at dksX3_followInsertion_1 16 rfl rfl)
theorem dX3_followInsertion_41 : decode cX3_followInsertion 41 = .ok (.iconst 4, 1) := dk_7 (dk_at dksX3_followInsertion_1 17 rfl rfl)
theorem dX3_followInsertion_42 : decode cX3_followInsertion 42 = .ok (.invokevirtual 205, 3) := dk_182 0 205 (dk_at dksX3_followInsertion_1 18 rfl rfl)
theorem dX3_followInsertion_45 : decode cX3_followInsertion 45 = .ok (.iload_n 2, 1) := dk_28 (dk_at dksX3_followInsertion_1 21 rfl rfl)
theorem dX3_followInsertion_46 : decode cX3_followInsertion 46 = .ok (.if_icmp .lt 7, 3) := dk_161 0 7 (dk_at dksX3_followInsertion_2 0 rfl rfl)
theorem dX3_followInsertion_49 : decode cX3_followInsertion 49 = .ok (.iconst 1, 1) := dk_4 (dk_at dksX3_followInsertion_2 3 rfl rfl)
theorem dX3_followInsertion_50 : decode cX3_followInsertion 50 = .ok (.goto 4, 3) := dk_167 0 4 (dk_at dksX3_followInsertion_2 4 rfl rfl)
theorem dX3_followInsertion_53 : decode cX3_followInsertion 53 = .ok (.iconst 0, 1) := dk_3 (dk_at dksX3_followInsertion_2 7 rfl rfl)
theorem dX3_followInsertion_54 : decode cX3_followInsertion 54 = .ok (.iadd, 1) := dk_96 (dk_at dksX3_followInsertion_2 8 rfl rfl)
theorem dX3_followInsertion_55 : decode cX3_followInsertion 55 = .ok (.iastore, 1) := dk_79 (dk_at dksX3_followInsertion_2 9 rfl rfl)
theorem dX3_followInsertion_56 : decode cX3_followInsertion 56 = .ok (.aload_n 0, 1) := dk_42 (dk_at dksX3_followInsertion_2 10 rfl rfl)
theorem dX3_followInsertion_57 : decode cX3_followInsertion 57 = .ok (.getfield 7, 3) := dk_180 0 7 (dk_at dksX3_followInsertion_2 11 rfl rfl)
theorem dX3_followInsertion_60 : decode cX3_followInsertion 60 = .ok (.sipush 374, 3) := dk_17 1 118 (dk_at dksX3_followInsertion_2 14 rfl rfl)
theorem dX3_followInsertion_63 : decode cX3_followInsertion 63 = .ok (.bipush 6, 2) := dk_16 6 (dk_at dksX3_followInsertion_2 17 rfl rfl)
theorem dX3_followInsertion_65 : decode cX3_followInsertion 65 = .ok (.iload_n 3, 1) := dk_29 (dk_at dksX3_followInsertion_2 19 rfl rfl)
theorem dX3_followInsertion_66 : decode cX3_followInsertion 66 = .ok (.imul, 1) := dk_104 (dk_at dksX3_followInsertion_2 20 rfl rfl)
theorem dX3_followInsertion_67 : decode cX3_followInsertion 67 = .ok (.iadd, 1) := dk_96 (dk_at dksX3_followInsertion_2 21 rfl rfl)
theorem dX3_followInsertion_68 : decode cX3_followInsertion 68 = .ok (.iconst 3, 1) := dk_6 (dk_at dksX3_followInsertion_2 22 rfl rfl)
theorem dX3_followInsertion_69 : decode cX3_followInsertion 69 = .ok (.iadd, 1) := dk_96 (dk_at dksX3_followInsertion_2 23 rfl rfl)
theorem dX3_followInsertion_70 : decode cX3_followInsertion 70 = .ok (.dup2, 1) := dk_92 (dk_at dksX3_followInsertion_3 0 rfl rfl)
theorem dX3_followInsertion_71 : decode cX3_followInsertion 71 = .ok (.iaload, 1) := dk_46 (dk_at dksX3_followInsertion_3 1 rfl rfl)
theorem dX3_followInsertion_72 : decode cX3_followInsertion 72 = .ok (.aload_n 0, 1) := dk_42 (dk_at dksX3_followInsertion_3 2 rfl rfl)
theorem dX3_followInsertion_73 : decode cX3_followInsertion 73 = .ok (.iload_n 3, 1) := dk_29 (dk_at dksX3_followInsertion_3 3 rfl rfl)
theorem dX3_followInsertion_74 : decode cX3_followInsertion 74 = .ok (.iconst 3, 1) := dk_6 (dk_at dksX3_followInsertion_3 4 rfl rfl)
theorem dX3_followInsertion_75 : decode cX3_followInsertion 75 = .ok (.invokevirtual 205, 3) := dk_182 0 205 (dk_at dksX3_followInsertion_3 5 rfl rfl)
theorem dX3_followInsertion_78 : decode cX3_followInsertion 78 = .ok (.iload_n 2, 1) := dk_28 (dk_at dksX3_followInsertion_3 8 rfl rfl)
theorem dX3_followInsertion_79 : decode cX3_followInsertion 79 = .ok (.if_icmp .lt 7, 3) := dk_161 0 7 (dk_at dksX3_followInsertion_3 9 rfl rfl)
theorem dX3_followInsertion_82 : decode cX3_followInsertion 82 = .ok (.iconst 1, 1) := dk_4 (dk_at dksX3_followInsertion_3 12 rfl rfl)
theorem dX3_followInsertion_83 : decode cX3_followInsertion 83 = .ok (.goto 4, 3) := dk_167 0 4 (dk_at dksX3_followInsertion_3 13 rfl rfl)
theorem dX3_followInsertion_86 : decode cX3_followInsertion 86 = .ok (.iconst 0, 1) := dk_3 (dk_at dksX3_followInsertion_3 16 rfl rfl)
theorem dX3_followInsertion_87 : decode cX3_followInsertion 87 = .ok (.iadd, 1) := dk_96 (dk_at dksX3_followInsertion_3 17 rfl rfl)
theorem dX3_followInsertion_88 : decode cX3_followInsertion 88 = .ok (.iastore, 1) := dk_79 (dk_at dksX3_followInsertion_3 18 rfl rfl)
theorem dX3_followInsertion_89 : decode cX3_followInsertion 89 = .ok (.iinc 3 1, 3) := dk_132 3 1 (dk_at dksX3_followInsertion_3 19 rfl rfl)
theorem dX3_followInsertion_92 : decode cX3_followInsertion 92 = .ok (.goto (-90), 3) := dk_167 255 166 (dk_at dksX3_followInsertion_4 0 rfl rfl)
theorem dX3_followInsertion_95 : decode cX3_followInsertion 95 = .ok (.return_, 1) := dk_177 (dk_at dksX3_followInsertion_4 3 rfl rfl)
abbrev cX3_deleteWord : ByteArray := prog_16_method_47_code
def yX3_deleteWord : MethodName := ⟨RX3, "deleteWord", "(II)I"⟩
def dkwX3_deleteWord_6 : List UInt8 := [182, 0, 119, 172]
abbrev dktX3_deleteWord_6 : List UInt8 := dkwX3_deleteWord_6 ++ []
def dkwX3_deleteWord_5 : List UInt8 := [79, 42, 180, 0, 7, 16, 14, 27, 3, 184, 0, 129, 96, 4, 79, 42, 27, 28, 182, 0, 220, 42, 27]
abbrev dktX3_deleteWord_5 : List UInt8 := dkwX3_deleteWord_5 ++ dktX3_deleteWord_6
def dkwX3_deleteWord_4 : List UInt8 := [96, 46, 79, 132, 3, 1, 167, 255, 196, 42, 180, 0, 7, 8, 6, 27, 104, 96, 3, 96, 92, 46, 4, 100]
abbrev dktX3_deleteWord_4 : List UInt8 := dkwX3_deleteWord_4 ++ dktX3_deleteWord_5
def dkwX3_deleteWord_3 : List UInt8 := [180, 0, 7, 16, 14, 27, 29, 184, 0, 129, 96, 42, 180, 0, 7, 16, 14, 27, 29, 4, 96, 184, 0, 129]
abbrev dktX3_deleteWord_3 : List UInt8 := dkwX3_deleteWord_3 ++ dktX3_deleteWord_4
def dkwX3_deleteWord_2 : List UInt8 := [162, 0, 55, 42, 180, 0, 19, 27, 29, 184, 0, 129, 42, 27, 29, 4, 96, 182, 0, 181, 80, 42]
abbrev dktX3_deleteWord_2 : List UInt8 := dkwX3_deleteWord_2 ++ dktX3_deleteWord_3
def dkwX3_deleteWord_1 : List UInt8 := [182, 0, 119, 4, 160, 0, 9, 42, 5, 182, 0, 141, 172, 28, 62, 29, 42, 27, 182, 0, 119, 4, 100]
abbrev dktX3_deleteWord_1 : List UInt8 := dkwX3_deleteWord_1 ++ dktX3_deleteWord_2
def dkwX3_deleteWord_0 : List UInt8 := [42, 3, 181, 0, 100, 42, 27, 28, 182, 0, 198, 154, 0, 9, 42, 4, 182, 0, 141, 172, 42, 27]
abbrev dktX3_deleteWord_0 : List UInt8 := dkwX3_deleteWord_0 ++ dktX3_deleteWord_1
theorem dksX3_deleteWord_0 : cX3_deleteWord.data.toList.drop 0 = dktX3_deleteWord_0 := by decide +kernel
theorem dksX3_deleteWord_1 : cX3_deleteWord.data.toList.drop 22 = dktX3_deleteWord_1 := dk_seg dksX3_deleteWord_0 22 rfl rfl
theorem dksX3_deleteWord_2 : cX3_deleteWord.data.toList.drop 45 = dktX3_deleteWord_2 := dk_seg dksX3_deleteWord_1 23 rfl rfl
theorem dksX3_deleteWord_3 : cX3_deleteWord.data.toList.drop 67 = dktX3_deleteWord_3 := dk_seg dksX3_deleteWord_2 22 rfl rfl
theorem dksX3_deleteWord_4 : cX3_deleteWord.data.toList.drop 91 = dktX3_deleteWord_4 := dk_seg dksX3_deleteWord_3 24 rfl rfl
theorem dksX3_deleteWord_5 : cX3_deleteWord.data.toList.drop 115 = dktX3_deleteWord_5 := dk_seg dksX3_deleteWord_4 24 rfl rfl
theorem dksX3_deleteWord_6 : cX3_deleteWord.data.toList.drop 138 = dktX3_deleteWord_6 := dk_seg dksX3_deleteWord_5 23 rfl rfl
theorem dX3_deleteWord_0 : decode cX3_deleteWord 0 = .ok (.aload_n 0, 1) := dk_42 (dk_at dksX3_deleteWord_0 0 rfl rfl)
theorem dX3_deleteWord_1 : decode cX3_deleteWord 1 = .ok (.iconst 0, 1) := dk_3 (dk_at dksX3_deleteWord_0 1 rfl rfl)
theorem dX3_deleteWord_2 : decode cX3_deleteWord 2 = .ok (.putfield 100, 3) := dk_181 0 100 (dk_at dksX3_deleteWord_0 2 rfl rfl)
theorem dX3_deleteWord_5 : decode cX3_deleteWord 5 = .ok (.aload_n 0, 1) := dk_42 (dk_at dksX3_deleteWord_0 5 rfl rfl)
theorem dX3_deleteWord_6 : decode cX3_deleteWord 6 = .ok (.iload_n 1, 1) := dk_27 (dk_at dksX3_deleteWord_0 6 rfl rfl)
theorem dX3_deleteWord_7 : decode cX3_deleteWord 7 = .ok (.iload_n 2, 1) := dk_28 (dk_at dksX3_deleteWord_0 7 rfl rfl)
theorem dX3_deleteWord_8 : decode cX3_deleteWord 8 = .ok (.invokevirtual 198, 3) := dk_182 0 198 (dk_at dksX3_deleteWord_0 8 rfl rfl)
theorem dX3_deleteWord_11 : decode cX3_deleteWord 11 = .ok (.ifCond .ne 9, 3) := dk_154 0 9 (dk_at dksX3_deleteWord_0 11 rfl rfl)
theorem dX3_deleteWord_14 : decode cX3_deleteWord 14 = .ok (.aload_n 0, 1) := dk_42 (dk_at dksX3_deleteWord_0 14 rfl rfl)
theorem dX3_deleteWord_15 : decode cX3_deleteWord 15 = .ok (.iconst 1, 1) := dk_4 (dk_at dksX3_deleteWord_0 15 rfl rfl)
theorem dX3_deleteWord_16 : decode cX3_deleteWord 16 = .ok (.invokevirtual 141, 3) := dk_182 0 141 (dk_at dksX3_deleteWord_0 16 rfl rfl)
theorem dX3_deleteWord_19 : decode cX3_deleteWord 19 = .ok (.ireturn, 1) := dk_172 (dk_at dksX3_deleteWord_0 19 rfl rfl)
theorem dX3_deleteWord_20 : decode cX3_deleteWord 20 = .ok (.aload_n 0, 1) := dk_42 (dk_at dksX3_deleteWord_0 20 rfl rfl)
theorem dX3_deleteWord_21 : decode cX3_deleteWord 21 = .ok (.iload_n 1, 1) := dk_27 (dk_at dksX3_deleteWord_0 21 rfl rfl)
theorem dX3_deleteWord_22 : decode cX3_deleteWord 22 = .ok (.invokevirtual 119, 3) := dk_182 0 119 (dk_at dksX3_deleteWord_1 0 rfl rfl)
theorem dX3_deleteWord_25 : decode cX3_deleteWord 25 = .ok (.iconst 1, 1) := dk_4 (dk_at dksX3_deleteWord_1 3 rfl rfl)
theorem dX3_deleteWord_26 : decode cX3_deleteWord 26 = .ok (.if_icmp .ne 9, 3) := dk_160 0 9 (dk_at dksX3_deleteWord_1 4 rfl rfl)
theorem dX3_deleteWord_29 : decode cX3_deleteWord 29 = .ok (.aload_n 0, 1) := dk_42 (dk_at dksX3_deleteWord_1 7 rfl rfl)
theorem dX3_deleteWord_30 : decode cX3_deleteWord 30 = .ok (.iconst 2, 1) := dk_5 (dk_at dksX3_deleteWord_1 8 rfl rfl)
theorem dX3_deleteWord_31 : decode cX3_deleteWord 31 = .ok (.invokevirtual 141, 3) := dk_182 0 141 (dk_at dksX3_deleteWord_1 9 rfl rfl)
theorem dX3_deleteWord_34 : decode cX3_deleteWord 34 = .ok (.ireturn, 1) := dk_172 (dk_at dksX3_deleteWord_1 12 rfl rfl)
theorem dX3_deleteWord_35 : decode cX3_deleteWord 35 = .ok (.iload_n 2, 1) := dk_28 (dk_at dksX3_deleteWord_1 13 rfl rfl)
theorem dX3_deleteWord_36 : decode cX3_deleteWord 36 = .ok (.istore_n 3, 1) := dk_62 (dk_at dksX3_deleteWord_1 14 rfl rfl)
theorem dX3_deleteWord_37 : decode cX3_deleteWord 37 = .ok (.iload_n 3, 1) := dk_29 (dk_at dksX3_deleteWord_1 15 rfl rfl)
theorem dX3_deleteWord_38 : decode cX3_deleteWord 38 = .ok (.aload_n 0, 1) := dk_42 (dk_at dksX3_deleteWord_1 16 rfl rfl)
theorem dX3_deleteWord_39 : decode cX3_deleteWord 39 = .ok (.iload_n 1, 1) := dk_27 (dk_at dksX3_deleteWord_1 17 rfl rfl)
theorem dX3_deleteWord_40 : decode cX3_deleteWord 40 = .ok (.invokevirtual 119, 3) := dk_182 0 119 (dk_at dksX3_deleteWord_1 18 rfl rfl)
theorem dX3_deleteWord_43 : decode cX3_deleteWord 43 = .ok (.iconst 1, 1) := dk_4 (dk_at dksX3_deleteWord_1 21 rfl rfl)
theorem dX3_deleteWord_44 : decode cX3_deleteWord 44 = .ok (.isub, 1) := dk_100 (dk_at dksX3_deleteWord_1 22 rfl rfl)
theorem dX3_deleteWord_45 : decode cX3_deleteWord 45 = .ok (.if_icmp .ge 55, 3) := dk_162 0 55 (dk_at dksX3_deleteWord_2 0 rfl rfl)
theorem dX3_deleteWord_48 : decode cX3_deleteWord 48 = .ok (.aload_n 0, 1) := dk_42 (dk_at dksX3_deleteWord_2 3 rfl rfl)
theorem dX3_deleteWord_49 : decode cX3_deleteWord 49 = .ok (.getfield 19, 3) := dk_180 0 19 (dk_at dksX3_deleteWord_2 4 rfl rfl)
theorem dX3_deleteWord_52 : decode cX3_deleteWord 52 = .ok (.iload_n 1, 1) := dk_27 (dk_at dksX3_deleteWord_2 7 rfl rfl)
theorem dX3_deleteWord_53 : decode cX3_deleteWord 53 = .ok (.iload_n 3, 1) := dk_29 (dk_at dksX3_deleteWord_2 8 rfl rfl)
theorem dX3_deleteWord_54 : decode cX3_deleteWord 54 = .ok (.invokestatic 129, 3) := dk_184 0 129 (dk_at dksX3_deleteWord_2 9 rfl rfl)
theorem dX3_deleteWord_57 : decode cX3_deleteWord 57 = .ok (.aload_n 0, 1) := dk_42 (dk_at dksX3_deleteWord_2 12 rfl rfl)
theorem dX3_deleteWord_58 : decode cX3_deleteWord 58 = .ok (.iload_n 1, 1) := dk_27 (dk_at dksX3_deleteWord_2 13 rfl rfl)
theorem dX3_deleteWord_59 : decode cX3_deleteWord 59 = .ok (.iload_n 3, 1) := dk_29 (dk_at dksX3_deleteWord_2 14 rfl rfl)
theorem dX3_deleteWord_60 : decode cX3_deleteWord 60 = .ok (.iconst 1, 1) := dk_4 (dk_at dksX3_deleteWord_2 15 rfl rfl)
theorem dX3_deleteWord_61 : decode cX3_deleteWord 61 = .ok (.iadd, 1) := dk_96 (dk_at dksX3_deleteWord_2 16 rfl rfl)
theorem dX3_deleteWord_62 : decode cX3_deleteWord 62 = .ok (.invokevirtual 181, 3) := dk_182 0 181 (dk_at dksX3_deleteWord_2 17 rfl rfl)
theorem dX3_deleteWord_65 : decode cX3_deleteWord 65 = .ok (.lastore, 1) := dk_80 (dk_at dksX3_deleteWord_2 20 rfl rfl)
theorem dX3_deleteWord_66 : decode cX3_deleteWord 66 = .ok (.aload_n 0, 1) := dk_42 (dk_at dksX3_deleteWord_2 21 rfl rfl)
theorem dX3_deleteWord_67 : decode cX3_deleteWord 67 = .ok (.getfield 7, 3) := dk_180 0 7 (dk_at dksX3_deleteWord_3 0 rfl rfl)
theorem dX3_deleteWord_70 : decode cX3_deleteWord 70 = .ok (.bipush 14, 2) := dk_16 14 (dk_at dksX3_deleteWord_3 3 rfl rfl)
theorem dX3_deleteWord_72 : decode cX3_deleteWord 72 = .ok (.iload_n 1, 1) := dk_27 (dk_at dksX3_deleteWord_3 5 rfl rfl)
theorem dX3_deleteWord_73 : decode cX3_deleteWord 73 = .ok (.iload_n 3, 1) := dk_29 (dk_at dksX3_deleteWord_3 6 rfl rfl)
theorem dX3_deleteWord_74 : decode cX3_deleteWord 74 = .ok (.invokestatic 129, 3) := dk_184 0 129 (dk_at dksX3_deleteWord_3 7 rfl rfl)
theorem dX3_deleteWord_77 : decode cX3_deleteWord 77 = .ok (.iadd, 1) := dk_96 (dk_at dksX3_deleteWord_3 10 rfl rfl)
theorem dX3_deleteWord_78 : decode cX3_deleteWord 78 = .ok (.aload_n 0, 1) := dk_42 (dk_at dksX3_deleteWord_3 11 rfl rfl)
theorem dX3_deleteWord_79 : decode cX3_deleteWord 79 = .ok (.getfield 7, 3) := dk_180 0 7 (dk_at dksX3_deleteWord_3 12 rfl rfl)
theorem dX3_deleteWord_82 : decode cX3_deleteWord 82 = .ok (.bipush 14, 2) := dk_16 14 (dk_at dksX3_deleteWord_3 15 rfl rfl)
theorem dX3_deleteWord_84 : decode cX3_deleteWord 84 = .ok (.iload_n 1, 1) := dk_27 (dk_at dksX3_deleteWord_3 17 rfl rfl)
theorem dX3_deleteWord_85 : decode cX3_deleteWord 85 = .ok (.iload_n 3, 1) := dk_29 (dk_at dksX3_deleteWord_3 18 rfl rfl)
theorem dX3_deleteWord_86 : decode cX3_deleteWord 86 = .ok (.iconst 1, 1) := dk_4 (dk_at dksX3_deleteWord_3 19 rfl rfl)
theorem dX3_deleteWord_87 : decode cX3_deleteWord 87 = .ok (.iadd, 1) := dk_96 (dk_at dksX3_deleteWord_3 20 rfl rfl)
theorem dX3_deleteWord_88 : decode cX3_deleteWord 88 = .ok (.invokestatic 129, 3) := dk_184 0 129 (dk_at dksX3_deleteWord_3 21 rfl rfl)
theorem dX3_deleteWord_91 : decode cX3_deleteWord 91 = .ok (.iadd, 1) := dk_96 (dk_at dksX3_deleteWord_4 0 rfl rfl)
theorem dX3_deleteWord_92 : decode cX3_deleteWord 92 = .ok (.iaload, 1) := dk_46 (dk_at dksX3_deleteWord_4 1 rfl rfl)
theorem dX3_deleteWord_93 : decode cX3_deleteWord 93 = .ok (.iastore, 1) := dk_79 (dk_at dksX3_deleteWord_4 2 rfl rfl)
theorem dX3_deleteWord_94 : decode cX3_deleteWord 94 = .ok (.iinc 3 1, 3) := dk_132 3 1 (dk_at dksX3_deleteWord_4 3 rfl rfl)
theorem dX3_deleteWord_97 : decode cX3_deleteWord 97 = .ok (.goto (-60), 3) := dk_167 255 196 (dk_at dksX3_deleteWord_4 6 rfl rfl)
theorem dX3_deleteWord_100 : decode cX3_deleteWord 100 = .ok (.aload_n 0, 1) := dk_42 (dk_at dksX3_deleteWord_4 9 rfl rfl)
theorem dX3_deleteWord_101 : decode cX3_deleteWord 101 = .ok (.getfield 7, 3) := dk_180 0 7 (dk_at dksX3_deleteWord_4 10 rfl rfl)
theorem dX3_deleteWord_104 : decode cX3_deleteWord 104 = .ok (.iconst 5, 1) := dk_8 (dk_at dksX3_deleteWord_4 13 rfl rfl)
theorem dX3_deleteWord_105 : decode cX3_deleteWord 105 = .ok (.iconst 3, 1) := dk_6 (dk_at dksX3_deleteWord_4 14 rfl rfl)
theorem dX3_deleteWord_106 : decode cX3_deleteWord 106 = .ok (.iload_n 1, 1) := dk_27 (dk_at dksX3_deleteWord_4 15 rfl rfl)
theorem dX3_deleteWord_107 : decode cX3_deleteWord 107 = .ok (.imul, 1) := dk_104 (dk_at dksX3_deleteWord_4 16 rfl rfl)
theorem dX3_deleteWord_108 : decode cX3_deleteWord 108 = .ok (.iadd, 1) := dk_96 (dk_at dksX3_deleteWord_4 17 rfl rfl)
theorem dX3_deleteWord_109 : decode cX3_deleteWord 109 = .ok (.iconst 0, 1) := dk_3 (dk_at dksX3_deleteWord_4 18 rfl rfl)
theorem dX3_deleteWord_110 : decode cX3_deleteWord 110 = .ok (.iadd, 1) := dk_96 (dk_at dksX3_deleteWord_4 19 rfl rfl)
theorem dX3_deleteWord_111 : decode cX3_deleteWord 111 = .ok (.dup2, 1) := dk_92 (dk_at dksX3_deleteWord_4 20 rfl rfl)
theorem dX3_deleteWord_112 : decode cX3_deleteWord 112 = .ok (.iaload, 1) := dk_46 (dk_at dksX3_deleteWord_4 21 rfl rfl)
theorem dX3_deleteWord_113 : decode cX3_deleteWord 113 = .ok (.iconst 1, 1) := dk_4 (dk_at dksX3_deleteWord_4 22 rfl rfl)
theorem dX3_deleteWord_114 : decode cX3_deleteWord 114 = .ok (.isub, 1) := dk_100 (dk_at dksX3_deleteWord_4 23 rfl rfl)
theorem dX3_deleteWord_115 : decode cX3_deleteWord 115 = .ok (.iastore, 1) := dk_79 (dk_at dksX3_deleteWord_5 0 rfl rfl)
theorem dX3_deleteWord_116 : decode cX3_deleteWord 116 = .ok (.aload_n 0, 1) := dk_42 (dk_at dksX3_deleteWord_5 1 rfl rfl)
theorem dX3_deleteWord_117 : decode cX3_deleteWord 117 = .ok (.getfield 7, 3) := dk_180 0 7 (dk_at dksX3_deleteWord_5 2 rfl rfl)
theorem dX3_deleteWord_120 : decode cX3_deleteWord 120 = .ok (.bipush 14, 2) := dk_16 14 (dk_at dksX3_deleteWord_5 5 rfl rfl)
theorem dX3_deleteWord_122 : decode cX3_deleteWord 122 = .ok (.iload_n 1, 1) := dk_27 (dk_at dksX3_deleteWord_5 7 rfl rfl)
theorem dX3_deleteWord_123 : decode cX3_deleteWord 123 = .ok (.iconst 0, 1) := dk_3 (dk_at dksX3_deleteWord_5 8 rfl rfl)
theorem dX3_deleteWord_124 : decode cX3_deleteWord 124 = .ok (.invokestatic 129, 3) := dk_184 0 129 (dk_at dksX3_deleteWord_5 9 rfl rfl)
theorem dX3_deleteWord_127 : decode cX3_deleteWord 127 = .ok (.iadd, 1) := dk_96 (dk_at dksX3_deleteWord_5 12 rfl rfl)
theorem dX3_deleteWord_128 : decode cX3_deleteWord 128 = .ok (.iconst 1, 1) := dk_4 (dk_at dksX3_deleteWord_5 13 rfl rfl)
theorem dX3_deleteWord_129 : decode cX3_deleteWord 129 = .ok (.iastore, 1) := dk_79 (dk_at dksX3_deleteWord_5 14 rfl rfl)
theorem dX3_deleteWord_130 : decode cX3_deleteWord 130 = .ok (.aload_n 0, 1) := dk_42 (dk_at dksX3_deleteWord_5 15 rfl rfl)
theorem dX3_deleteWord_131 : decode cX3_deleteWord 131 = .ok (.iload_n 1, 1) := dk_27 (dk_at dksX3_deleteWord_5 16 rfl rfl)
theorem dX3_deleteWord_132 : decode cX3_deleteWord 132 = .ok (.iload_n 2, 1) := dk_28 (dk_at dksX3_deleteWord_5 17 rfl rfl)
theorem dX3_deleteWord_133 : decode cX3_deleteWord 133 = .ok (.invokevirtual 220, 3) := dk_182 0 220 (dk_at dksX3_deleteWord_5 18 rfl rfl)
theorem dX3_deleteWord_136 : decode cX3_deleteWord 136 = .ok (.aload_n 0, 1) := dk_42 (dk_at dksX3_deleteWord_5 21 rfl rfl)
theorem dX3_deleteWord_137 : decode cX3_deleteWord 137 = .ok (.iload_n 1, 1) := dk_27 (dk_at dksX3_deleteWord_5 22 rfl rfl)
theorem dX3_deleteWord_138 : decode cX3_deleteWord 138 = .ok (.invokevirtual 119, 3) := dk_182 0 119 (dk_at dksX3_deleteWord_6 0 rfl rfl)
theorem dX3_deleteWord_141 : decode cX3_deleteWord 141 = .ok (.ireturn, 1) := dk_172 (dk_at dksX3_deleteWord_6 3 rfl rfl)
abbrev cX3_followDeletion : ByteArray := prog_16_method_46_code
def yX3_followDeletion : MethodName := ⟨RX3, "followDeletion", "(II)V"⟩
def dkwX3_followDeletion_6 : List UInt8 := [21, 5, 4, 100, 167, 0, 5, 21, 5, 79, 132, 3, 1, 167, 255, 104, 177]
abbrev dktX3_followDeletion_6 : List UInt8 := dkwX3_followDeletion_6 ++ []
def dkwX3_followDeletion_5 : List UInt8 := [16, 6, 29, 104, 96, 7, 96, 21, 6, 153, 0, 8, 21, 7, 167, 0, 18, 21, 5, 28, 161, 0, 10]
abbrev dktX3_followDeletion_5 : List UInt8 := dkwX3_followDeletion_5 ++ dktX3_followDeletion_6
def dkwX3_followDeletion_4 : List UInt8 := [21, 4, 28, 164, 0, 10, 21, 4, 4, 100, 167, 0, 5, 21, 4, 79, 42, 180, 0, 7, 17, 1, 118]
abbrev dktX3_followDeletion_4 : List UInt8 := dkwX3_followDeletion_4 ++ dktX3_followDeletion_5
def dkwX3_followDeletion_3 : List UInt8 := [180, 0, 7, 17, 1, 118, 16, 6, 29, 104, 96, 6, 96, 21, 6, 153, 0, 8, 21, 7, 167, 0, 18]
abbrev dktX3_followDeletion_3 : List UInt8 := dkwX3_followDeletion_3 ++ dktX3_followDeletion_4
def dkwX3_followDeletion_2 : List UInt8 := [160, 0, 7, 4, 167, 0, 4, 3, 54, 6, 28, 42, 27, 182, 0, 119, 4, 100, 184, 0, 215, 54, 7, 42]
abbrev dktX3_followDeletion_2 : List UInt8 := dkwX3_followDeletion_2 ++ dktX3_followDeletion_3
def dkwX3_followDeletion_1 : List UInt8 := [29, 6, 182, 0, 205, 54, 4, 42, 29, 7, 182, 0, 205, 54, 5, 21, 4, 28, 160, 0, 13, 21, 5, 28]
abbrev dktX3_followDeletion_1 : List UInt8 := dkwX3_followDeletion_1 ++ dktX3_followDeletion_2
def dkwX3_followDeletion_0 : List UInt8 := [3, 62, 29, 42, 182, 0, 126, 162, 0, 150, 42, 29, 5, 182, 0, 205, 27, 159, 0, 6, 167, 0, 131, 42]
abbrev dktX3_followDeletion_0 : List UInt8 := dkwX3_followDeletion_0 ++ dktX3_followDeletion_1
theorem dksX3_followDeletion_0 : cX3_followDeletion.data.toList.drop 0 = dktX3_followDeletion_0 := by decide +kernel
theorem dksX3_followDeletion_1 : cX3_followDeletion.data.toList.drop 24 = dktX3_followDeletion_1 := dk_seg dksX3_followDeletion_0 24 rfl rfl
theorem dksX3_followDeletion_2 : cX3_followDeletion.data.toList.drop 48 = dktX3_followDeletion_2 := dk_seg dksX3_followDeletion_1 24 rfl rfl
theorem dksX3_followDeletion_3 : cX3_followDeletion.data.toList.drop 72 = dktX3_followDeletion_3 := dk_seg dksX3_followDeletion_2 24 rfl rfl
theorem dksX3_followDeletion_4 : cX3_followDeletion.data.toList.drop 95 = dktX3_followDeletion_4 := dk_seg dksX3_followDeletion_3 23 rfl rfl
theorem dksX3_followDeletion_5 : cX3_followDeletion.data.toList.drop 118 = dktX3_followDeletion_5 := dk_seg dksX3_followDeletion_4 23 rfl rfl
theorem dksX3_followDeletion_6 : cX3_followDeletion.data.toList.drop 141 = dktX3_followDeletion_6 := dk_seg dksX3_followDeletion_5 23 rfl rfl
theorem dX3_followDeletion_0 : decode cX3_followDeletion 0 = .ok (.iconst 0, 1) := dk_3 (dk_at dksX3_followDeletion_0 0 rfl rfl)
theorem dX3_followDeletion_1 : decode cX3_followDeletion 1 = .ok (.istore_n 3, 1) := dk_62 (dk_at dksX3_followDeletion_0 1 rfl rfl)
theorem dX3_followDeletion_2 : decode cX3_followDeletion 2 = .ok (.iload_n 3, 1) := dk_29 (dk_at dksX3_followDeletion_0 2 rfl rfl)
theorem dX3_followDeletion_3 : decode cX3_followDeletion 3 = .ok (.aload_n 0, 1) := dk_42 (dk_at dksX3_followDeletion_0 3 rfl rfl)
theorem dX3_followDeletion_4 : decode cX3_followDeletion 4 = .ok (.invokevirtual 126, 3) := dk_182 0 126 (dk_at dksX3_followDeletion_0 4 rfl rfl)
theorem dX3_followDeletion_7 : decode cX3_followDeletion 7 = .ok (.if_icmp .ge 150, 3) := dk_162 0 150 (dk_at dksX3_followDeletion_0 7 rfl rfl)
theorem dX3_followDeletion_10 : decode cX3_followDeletion 10 = .ok (.aload_n 0, 1) := dk_42 (dk_at dksX3_followDeletion_0 10 rfl rfl)
theorem dX3_followDeletion_11 : decode cX3_followDeletion 11 = .ok (.iload_n 3, 1) := dk_29 (dk_at dksX3_followDeletion_0 11 rfl rfl)
theorem dX3_followDeletion_12 : decode cX3_followDeletion 12 = .ok (.iconst 2, 1) := dk_5 (dk_at dksX3_followDeletion_0 12 rfl rfl)
theorem dX3_followDeletion_13 : decode cX3_followDeletion 13 = .ok (.invokevirtual 205, 3) := dk_182 0 205 (dk_at dksX3_followDeletion_0 13 rfl rfl)
theorem dX3_followDeletion_16 : decode cX3_followDeletion 16 = .ok (.iload_n 1, 1) := dk_27 (dk_at dksX3_followDeletion_0 16 rfl rfl)
theorem dX3_followDeletion_17 : decode cX3_followDeletion 17 = .ok (.if_icmp .eq 6, 3) := dk_159 0 6 (dk_at dksX3_followDeletion_0 17 rfl rfl)
theorem dX3_followDeletion_20 : decode cX3_followDeletion 20 = .ok (.goto 131, 3) := dk_167 0 131 (dk_at dksX3_followDeletion_0 20 rfl rfl)
theorem dX3_followDeletion_23 : decode cX3_followDeletion 23 = .ok (.aload_n 0, 1) := dk_42 (dk_at dksX3_followDeletion_0 23 rfl rfl)
theorem dX3_followDeletion_24 : decode cX3_followDeletion 24 = .ok (.iload_n 3, 1) := dk_29 (dk_at dksX3_followDeletion_1 0 rfl rfl)
theorem dX3_followDeletion_25 : decode cX3_followDeletion 25 = .ok (.iconst 3, 1) := dk_6 (dk_at dksX3_followDeletion_1 1 rfl rfl)
theorem dX3_followDeletion_26 : decode cX3_followDeletion 26 = .ok (.invokevirtual 205, 3) := dk_182 0 205 (dk_at dksX3_followDeletion_1 2 rfl rfl)
theorem dX3_followDeletion_29 : decode cX3_followDeletion 29 = .ok (.istore 4, 2) := dk_54 4 (dk_at dksX3_followDeletion_1 5 rfl rfl)
theorem dX3_followDeletion_31 : decode cX3_followDeletion 31 = .ok (.aload_n 0, 1) := dk_42 (dk_at dksX3_followDeletion_1 7 rfl rfl)
theorem dX3_followDeletion_32 : decode cX3_followDeletion 32 = .ok (.iload_n 3, 1) := dk_29 (dk_at dksX3_followDeletion_1 8 rfl rfl)
theorem dX3_followDeletion_33 : decode cX3_followDeletion 33 = .ok (.iconst 4, 1) := dk_7 (dk_at dksX3_followDeletion_1 9 rfl rfl)
theorem dX3_followDeletion_34 : decode cX3_followDeletion 34 = .ok (.invokevirtual 205, 3) := dk_182 0 205 (dk_at dksX3_followDeletion_1 10 rfl rfl)
theorem dX3_followDeletion_37 : decode cX3_followDeletion 37 = .ok (.istore 5, 2) := dk_54 5 (dk_at dksX3_followDeletion_1 13 rfl rfl)
theorem dX3_followDeletion_39 : decode cX3_followDeletion 39 = .ok (.iload 4, 2) := dk_21 4 (dk_at dksX3_followDeletion_1 15 rfl rfl)
theorem dX3_followDeletion_41 : decode cX3_followDeletion 41 = .ok (.iload_n 2, 1) := dk_28 (dk_at dksX3_followDeletion_1 17 rfl rfl)
theorem dX3_followDeletion_42 : decode cX3_followDeletion 42 = .ok (.if_icmp .ne 13, 3) := dk_160 0 13 (dk_at dksX3_followDeletion_1 18 rfl rfl)
theorem dX3_followDeletion_45 : decode cX3_followDeletion 45 = .ok (.iload 5, 2) := dk_21 5 (dk_at dksX3_followDeletion_1 21 rfl rfl)
theorem dX3_followDeletion_47 : decode cX3_followDeletion 47 = .ok (.iload_n 2, 1) := dk_28 (dk_at dksX3_followDeletion_1 23 rfl rfl)
theorem dX3_followDeletion_48 : decode cX3_followDeletion 48 = .ok (.if_icmp .ne 7, 3) := dk_160 0 7 (dk_at dksX3_followDeletion_2 0 rfl rfl)
theorem dX3_followDeletion_51 : decode cX3_followDeletion 51 = .ok (.iconst 1, 1) := dk_4 (dk_at dksX3_followDeletion_2 3 rfl rfl)
theorem dX3_followDeletion_52 : decode cX3_followDeletion 52 = .ok (.goto 4, 3) := dk_167 0 4 (dk_at dksX3_followDeletion_2 4 rfl rfl)
theorem dX3_followDeletion_55 : decode cX3_followDeletion 55 = .ok (.iconst 0, 1) := dk_3 (dk_at dksX3_followDeletion_2 7 rfl rfl)
theorem dX3_followDeletion_56 : decode cX3_followDeletion 56 = .ok (.istore 6, 2) := dk_54 6 (dk_at dksX3_followDeletion_2 8 rfl rfl)
theorem dX3_followDeletion_58 : decode cX3_followDeletion 58 = .ok (.iload_n 2, 1) := dk_28 (dk_at dksX3_followDeletion_2 10 rfl rfl)
theorem dX3_followDeletion_59 : decode cX3_followDeletion 59 = .ok (.aload_n 0, 1) := dk_42 (dk_at dksX3_followDeletion_2 11 rfl rfl)
theorem dX3_followDeletion_60 : decode cX3_followDeletion 60 = .ok (.iload_n 1, 1) := dk_27 (dk_at dksX3_followDeletion_2 12 rfl rfl)
theorem dX3_followDeletion_61 : decode cX3_followDeletion 61 = .ok (.invokevirtual 119, 3) := dk_182 0 119 (dk_at dksX3_followDeletion_2 13 rfl rfl)
theorem dX3_followDeletion_64 : decode cX3_followDeletion 64 = .ok (.iconst 1, 1) := dk_4 (dk_at dksX3_followDeletion_2 16 rfl rfl)
theorem dX3_followDeletion_65 : decode cX3_followDeletion 65 = .ok (.isub, 1) := dk_100 (dk_at dksX3_followDeletion_2 17 rfl rfl)
theorem dX3_followDeletion_66 : decode cX3_followDeletion 66 = .ok (.invokestatic 215, 3) := dk_184 0 215 (dk_at dksX3_followDeletion_2 18 rfl rfl)
theorem dX3_followDeletion_69 : decode cX3_followDeletion 69 = .ok (.istore 7, 2) := dk_54 7 (dk_at dksX3_followDeletion_2 21 rfl rfl)
theorem dX3_followDeletion_71 : decode cX3_followDeletion 71 = .ok (.aload_n 0, 1) := dk_42 (dk_at dksX3_followDeletion_2 23 rfl rfl)
theorem dX3_followDeletion_72 : decode cX3_followDeletion 72 = .ok (.getfield 7, 3) := dk_180 0 7 (dk_at dksX3_followDeletion_3 0 rfl rfl)
theorem dX3_followDeletion_75 : decode cX3_followDeletion 75 = .ok (.sipush 374, 3) := dk_17 1 118 (dk_at dksX3_followDeletion_3 3 rfl rfl)
theorem dX3_followDeletion_78 : decode cX3_followDeletion 78 = .ok (.bipush 6, 2) := dk_16 6 (dk_at dksX3_followDeletion_3 6 rfl rfl)
theorem dX3_followDeletion_80 : decode cX3_followDeletion 80 = .ok (.iload_n 3, 1) := dk_29 (dk_at dksX3_followDeletion_3 8 rfl rfl)
theorem dX3_followDeletion_81 : decode cX3_followDeletion 81 = .ok (.imul, 1) := dk_104 (dk_at dksX3_followDeletion_3 9 rfl rfl)
theorem dX3_followDeletion_82 : decode cX3_followDeletion 82 = .ok (.iadd, 1) := dk_96 (dk_at dksX3_followDeletion_3 10 rfl rfl)
theorem dX3_followDeletion_83 : decode cX3_followDeletion 83 = .ok (.iconst 3, 1) := dk_6 (dk_at dksX3_followDeletion_3 11 rfl rfl)
theorem dX3_followDeletion_84 : decode cX3_followDeletion 84 = .ok (.iadd, 1) := dk_96 (dk_at dksX3_followDeletion_3 12 rfl rfl)
theorem dX3_followDeletion_85 : decode cX3_followDeletion 85 = .ok (.iload 6, 2) := dk_21 6 (dk_at dksX3_followDeletion_3 13 rfl rfl)
theorem dX3_followDeletion_87 : decode cX3_followDeletion 87 = .ok (.ifCond .eq 8, 3) := dk_153 0 8 (dk_at dksX3_followDeletion_3 15 rfl rfl)
theorem dX3_followDeletion_90 : decode cX3_followDeletion 90 = .ok (.iload 7, 2) := dk_21 7 (dk_at dksX3_followDeletion_3 18 rfl rfl)
theorem dX3_followDeletion_92 : decode cX3_followDeletion 92 = .ok (.goto 18, 3) := dk_167 0 18 (dk_at dksX3_followDeletion_3 20 rfl rfl)
theorem dX3_followDeletion_95 : decode cX3_followDeletion 95 = .ok (.iload 4, 2) := dk_21 4 (dk_at dksX3_followDeletion_4 0 rfl rfl)
theorem dX3_followDeletion_97 : decode cX3_followDeletion 97 = .ok (.iload_n 2, 1) := dk_28 (dk_at dksX3_followDeletion_4 2 rfl rfl)
theorem dX3_followDeletion_98 : decode cX3_followDeletion 98 = .ok (.if_icmp .le 10, 3) := dk_164 0 10 (dk_at dksX3_followDeletion_4 3 rfl rfl)
theorem dX3_followDeletion_101 : decode cX3_followDeletion 101 = .ok (.iload 4, 2) := dk_21 4 (dk_at dksX3_followDeletion_4 6 rfl rfl)
theorem dX3_followDeletion_103 : decode cX3_followDeletion 103 = .ok (.iconst 1, 1) := dk_4 (dk_at dksX3_followDeletion_4 8 rfl rfl)
theorem dX3_followDeletion_104 : decode cX3_followDeletion 104 = .ok (.isub, 1) := dk_100 (dk_at dksX3_followDeletion_4 9 rfl rfl)
theorem dX3_followDeletion_105 : decode cX3_followDeletion 105 = .ok (.goto 5, 3) := dk_167 0 5 (dk_at dksX3_followDeletion_4 10 rfl rfl)
theorem dX3_followDeletion_108 : decode cX3_followDeletion 108 = .ok (.iload 4, 2) := dk_21 4 (dk_at dksX3_followDeletion_4 13 rfl rfl)
theorem dX3_followDeletion_110 : decode cX3_followDeletion 110 = .ok (.iastore, 1) := dk_79 (dk_at dksX3_followDeletion_4 15 rfl rfl)
theorem dX3_followDeletion_111 : decode cX3_followDeletion 111 = .ok (.aload_n 0, 1) := dk_42 (dk_at dksX3_followDeletion_4 16 rfl rfl)
theorem dX3_followDeletion_112 : decode cX3_followDeletion 112 = .ok (.getfield 7, 3) := dk_180 0 7 (dk_at dksX3_followDeletion_4 17 rfl rfl)
theorem dX3_followDeletion_115 : decode cX3_followDeletion 115 = .ok (.sipush 374, 3) := dk_17 1 118 (dk_at dksX3_followDeletion_4 20 rfl rfl)
theorem dX3_followDeletion_118 : decode cX3_followDeletion 118 = .ok (.bipush 6, 2) := dk_16 6 (dk_at dksX3_followDeletion_5 0 rfl rfl)
theorem dX3_followDeletion_120 : decode cX3_followDeletion 120 = .ok (.iload_n 3, 1) := dk_29 (dk_at dksX3_followDeletion_5 2 rfl rfl)
theorem dX3_followDeletion_121 : decode cX3_followDeletion 121 = .ok (.imul, 1) := dk_104 (dk_at dksX3_followDeletion_5 3 rfl rfl)
theorem dX3_followDeletion_122 : decode cX3_followDeletion 122 = .ok (.iadd, 1) := dk_96 (dk_at dksX3_followDeletion_5 4 rfl rfl)
theorem dX3_followDeletion_123 : decode cX3_followDeletion 123 = .ok (.iconst 4, 1) := dk_7 (dk_at dksX3_followDeletion_5 5 rfl rfl)
theorem dX3_followDeletion_124 : decode cX3_followDeletion 124 = .ok (.iadd, 1) := dk_96 (dk_at dksX3_followDeletion_5 6 rfl rfl)
theorem dX3_followDeletion_125 : decode cX3_followDeletion 125 = .ok (.iload 6, 2) := dk_21 6 (dk_at dksX3_followDeletion_5 7 rfl rfl)
theorem dX3_followDeletion_127 : decode cX3_followDeletion 127 = .ok (.ifCond .eq 8, 3) := dk_153 0 8 (dk_at dksX3_followDeletion_5 9 rfl rfl)
theorem dX3_followDeletion_130 : decode cX3_followDeletion 130 = .ok (.iload 7, 2) := dk_21 7 (dk_at dksX3_followDeletion_5 12 rfl rfl)
theorem dX3_followDeletion_132 : decode cX3_followDeletion 132 = .ok (.goto 18, 3) := dk_167 0 18 (dk_at dksX3_followDeletion_5 14 rfl rfl)
theorem dX3_followDeletion_135 : decode cX3_followDeletion 135 = .ok (.iload 5, 2) := dk_21 5 (dk_at dksX3_followDeletion_5 17 rfl rfl)
theorem dX3_followDeletion_137 : decode cX3_followDeletion 137 = .ok (.iload_n 2, 1) := dk_28 (dk_at dksX3_followDeletion_5 19 rfl rfl)
theorem dX3_followDeletion_138 : decode cX3_followDeletion 138 = .ok (.if_icmp .lt 10, 3) := dk_161 0 10 (dk_at dksX3_followDeletion_5 20 rfl rfl)
theorem dX3_followDeletion_141 : decode cX3_followDeletion 141 = .ok (.iload 5, 2) := dk_21 5 (dk_at dksX3_followDeletion_6 0 rfl rfl)
theorem dX3_followDeletion_143 : decode cX3_followDeletion 143 = .ok (.iconst 1, 1) := dk_4 (dk_at dksX3_followDeletion_6 2 rfl rfl)
theorem dX3_followDeletion_144 : decode cX3_followDeletion 144 = .ok (.isub, 1) := dk_100 (dk_at dksX3_followDeletion_6 3 rfl rfl)
theorem dX3_followDeletion_145 : decode cX3_followDeletion 145 = .ok (.goto 5, 3) := dk_167 0 5 (dk_at dksX3_followDeletion_6 4 rfl rfl)
theorem dX3_followDeletion_148 : decode cX3_followDeletion 148 = .ok (.iload 5, 2) := dk_21 5 (dk_at dksX3_followDeletion_6 7 rfl rfl)
theorem dX3_followDeletion_150 : decode cX3_followDeletion 150 = .ok (.iastore, 1) := dk_79 (dk_at dksX3_followDeletion_6 9 rfl rfl)
theorem dX3_followDeletion_151 : decode cX3_followDeletion 151 = .ok (.iinc 3 1, 3) := dk_132 3 1 (dk_at dksX3_followDeletion_6 10 rfl rfl)
theorem dX3_followDeletion_154 : decode cX3_followDeletion 154 = .ok (.goto (-152), 3) := dk_167 255 104 (dk_at dksX3_followDeletion_6 13 rfl rfl)
theorem dX3_followDeletion_157 : decode cX3_followDeletion 157 = .ok (.return_, 1) := dk_177 (dk_at dksX3_followDeletion_6 16 rfl rfl)
abbrev cX3_setParagraph : ByteArray := prog_16_method_48_code
def yX3_setParagraph : MethodName := ⟨RX3, "setParagraph", "(IIZ)Z"⟩
def dkwX3_setParagraph_2 : List UInt8 := [184, 0, 129, 96, 29, 153, 0, 7, 4, 167, 0, 4, 3, 79, 21, 4, 172]
abbrev dktX3_setParagraph_2 : List UInt8 := dkwX3_setParagraph_2 ++ []
def dkwX3_setParagraph_1 : List UInt8 := [180, 0, 100, 153, 0, 5, 3, 172, 42, 27, 28, 182, 0, 185, 54, 4, 42, 180, 0, 7, 16, 14, 27, 28]
abbrev dktX3_setParagraph_1 : List UInt8 := dkwX3_setParagraph_1 ++ dktX3_setParagraph_2
def dkwX3_setParagraph_0 : List UInt8 := [42, 42, 27, 28, 182, 0, 198, 153, 0, 11, 28, 158, 0, 7, 3, 167, 0, 4, 4, 181, 0, 100, 42]
abbrev dktX3_setParagraph_0 : List UInt8 := dkwX3_setParagraph_0 ++ dktX3_setParagraph_1
theorem dksX3_setParagraph_0 : cX3_setParagraph.data.toList.drop 0 = dktX3_setParagraph_0 := by decide +kernel
theorem dksX3_setParagraph_1 : cX3_setParagraph.data.toList.drop 23 = dktX3_setParagraph_1 := dk_seg dksX3_setParagraph_0 23 rfl rfl
theorem dksX3_setParagraph_2 : cX3_setParagraph.data.toList.drop 47 = dktX3_setParagraph_2 := dk_seg dksX3_setParagraph_1 24 rfl rfl
theorem dX3_setParagraph_0 : decode cX3_setParagraph 0 = .ok (.aload_n 0, 1) := dk_42 (dk_at dksX3_setParagraph_0 0 rfl rfl)
theorem dX3_setParagraph_1 : decode cX3_setParagraph 1 = .ok (.aload_n 0, 1) := dk_42 (dk_at dksX3_setParagraph_0 1 rfl rfl)
theorem dX3_setParagraph_2 : decode cX3_setParagraph 2 = .ok (.iload_n 1, 1) := dk_27 (dk_at dksX3_setParagraph_0 2 rfl rfl)
theorem dX3_setParagraph_3 : decode cX3_setParagraph 3 = .ok (.iload_n 2, 1) := dk_28 (dk_at dksX3_setParagraph_0 3 rfl rfl)
theorem dX3_setParagraph_4 : decode cX3_setParagraph 4 = .ok (.invokevirtual 198, 3) := dk_182 0 198 (dk_at dksX3_setParagraph_0 4 rfl rfl)
theorem dX3_setParagraph_7 : decode cX3_setParagraph 7 = .ok (.ifCond .eq 11, 3) := dk_153 0 11 (dk_at dksX3_setParagraph_0 7 rfl rfl)
theorem dX3_setParagraph_10 : decode cX3_setParagraph 10 = .ok (.iload_n 2, 1) := dk_28 (dk_at dksX3_setParagraph_0 10 rfl rfl)
theorem dX3_setParagraph_11 : decode cX3_setParagraph 11 = .ok (.ifCond .le 7, 3) := dk_158 0 7 (dk_at dksX3_setParagraph_0 11 rfl rfl)
theorem dX3_setParagraph_14 : decode cX3_setParagraph 14 = .ok (.iconst 0, 1) := dk_3 (dk_at dksX3_setParagraph_0 14 rfl rfl)
theorem dX3_setParagraph_15 : decode cX3_setParagraph 15 = .ok (.goto 4, 3) := dk_167 0 4 (dk_at dksX3_setParagraph_0 15 rfl rfl)
theorem dX3_setParagraph_18 : decode cX3_setParagraph 18 = .ok (.iconst 1, 1) := dk_4 (dk_at dksX3_setParagraph_0 18 rfl rfl)
theorem dX3_setParagraph_19 : decode cX3_setParagraph 19 = .ok (.putfield 100, 3) := dk_181 0 100 (dk_at dksX3_setParagraph_0 19 rfl rfl)
theorem dX3_setParagraph_22 : decode cX3_setParagraph 22 = .ok (.aload_n 0, 1) := dk_42 (dk_at dksX3_setParagraph_0 22 rfl rfl)
theorem dX3_setParagraph_23 : decode cX3_setParagraph 23 = .ok (.getfield 100, 3) := dk_180 0 100 (dk_at dksX3_setParagraph_1 0 rfl rfl)
theorem dX3_setParagraph_26 : decode cX3_setParagraph 26 = .ok (.ifCond .eq 5, 3) := dk_153 0 5 (dk_at dksX3_setParagraph_1 3 rfl rfl)
theorem dX3_setParagraph_29 : decode cX3_setParagraph 29 = .ok (.iconst 0, 1) := dk_3 (dk_at dksX3_setParagraph_1 6 rfl rfl)
theorem dX3_setParagraph_30 : decode cX3_setParagraph 30 = .ok (.ireturn, 1) := dk_172 (dk_at dksX3_setParagraph_1 7 rfl rfl)
theorem dX3_setParagraph_31 : decode cX3_setParagraph 31 = .ok (.aload_n 0, 1) := dk_42 (dk_at dksX3_setParagraph_1 8 rfl rfl)
theorem dX3_setParagraph_32 : decode cX3_setParagraph 32 = .ok (.iload_n 1, 1) := dk_27 (dk_at dksX3_setParagraph_1 9 rfl rfl)
theorem dX3_setParagraph_33 : decode cX3_setParagraph 33 = .ok (.iload_n 2, 1) := dk_28 (dk_at dksX3_setParagraph_1 10 rfl rfl)
theorem dX3_setParagraph_34 : decode cX3_setParagraph 34 = .ok (.invokevirtual 185, 3) := dk_182 0 185 (dk_at dksX3_setParagraph_1 11 rfl rfl)
theorem dX3_setParagraph_37 : decode cX3_setParagraph 37 = .ok (.istore 4, 2) := dk_54 4 (dk_at dksX3_setParagraph_1 14 rfl rfl)
theorem dX3_setParagraph_39 : decode cX3_setParagraph 39 = .ok (.aload_n 0, 1) := dk_42 (dk_at dksX3_setParagraph_1 16 rfl rfl)
theorem dX3_setParagraph_40 : decode cX3_setParagraph 40 = .ok (.getfield 7, 3) := dk_180 0 7 (dk_at dksX3_setParagraph_1 17 rfl rfl)
theorem dX3_setParagraph_43 : decode cX3_setParagraph 43 = .ok (.bipush 14, 2) := dk_16 14 (dk_at dksX3_setParagraph_1 20 rfl rfl)
theorem dX3_setParagraph_45 : decode cX3_setParagraph 45 = .ok (.iload_n 1, 1) := dk_27 (dk_at dksX3_setParagraph_1 22 rfl rfl)
theorem dX3_setParagraph_46 : decode cX3_setParagraph 46 = .ok (.iload_n 2, 1) := dk_28 (dk_at dksX3_setParagraph_1 23 rfl rfl)
theorem dX3_setParagraph_47 : decode cX3_setParagraph 47 = .ok (.invokestatic 129, 3) := dk_184 0 129 (dk_at dksX3_setParagraph_2 0 rfl rfl)
theorem dX3_setParagraph_50 : decode cX3_setParagraph 50 = .ok (.iadd, 1) := dk_96 (dk_at dksX3_setParagraph_2 3 rfl rfl)
theorem dX3_setParagraph_51 : decode cX3_setParagraph 51 = .ok (.iload_n 3, 1) := dk_29 (dk_at dksX3_setParagraph_2 4 rfl rfl)
theorem dX3_setParagraph_52 : decode cX3_setParagraph 52 = .ok (.ifCond .eq 7, 3) := dk_153 0 7 (dk_at dksX3_setParagraph_2 5 rfl rfl)
theorem dX3_setParagraph_55 : decode cX3_setParagraph 55 = .ok (.iconst 1, 1) := dk_4 (dk_at dksX3_setParagraph_2 8 rfl rfl)
theorem dX3_setParagraph_56 : decode cX3_setParagraph 56 = .ok (.goto 4, 3) := dk_167 0 4 (dk_at dksX3_setParagraph_2 9 rfl rfl)
theorem dX3_setParagraph_59 : decode cX3_setParagraph 59 = .ok (.iconst 0, 1) := dk_3 (dk_at dksX3_setParagraph_2 12 rfl rfl)
theorem dX3_setParagraph_60 : decode cX3_setParagraph 60 = .ok (.iastore, 1) := dk_79 (dk_at dksX3_setParagraph_2 13 rfl rfl)
theorem dX3_setParagraph_61 : decode cX3_setParagraph 61 = .ok (.iload 4, 2) := dk_21 4 (dk_at dksX3_setParagraph_2 14 rfl rfl)
theorem dX3_setParagraph_63 : decode cX3_setParagraph 63 = .ok (.ireturn, 1) := dk_172 (dk_at dksX3_setParagraph_2 16 rfl rfl)
abbrev cX3_setTarget : ByteArray := prog_16_method_49_code
def yX3_setTarget : MethodName := ⟨RX3, "setTarget", "(I)I"⟩
def dkwX3_setTarget_1 : List UInt8 := [42, 180, 0, 7, 7, 27, 79, 28, 172]
abbrev dktX3_setTarget_1 : List UInt8 := dkwX3_setTarget_1 ++ []
def dkwX3_setTarget_0 : List UInt8 := [42, 3, 181, 0, 100, 42, 27, 182, 0, 115, 154, 0, 9, 42, 4, 182, 0, 141, 172, 42, 182, 0, 164, 61]
abbrev dktX3_setTarget_0 : List UInt8 := dkwX3_setTarget_0 ++ dktX3_setTarget_1
theorem dksX3_setTarget_0 : cX3_setTarget.data.toList.drop 0 = dktX3_setTarget_0 := by decide +kernel
theorem dksX3_setTarget_1 : cX3_setTarget.data.toList.drop 24 = dktX3_setTarget_1 := dk_seg dksX3_setTarget_0 24 rfl rfl
theorem dX3_setTarget_0 : decode cX3_setTarget 0 = .ok (.aload_n 0, 1) := dk_42 (dk_at dksX3_setTarget_0 0 rfl rfl)
theorem dX3_setTarget_1 : decode cX3_setTarget 1 = .ok (.iconst 0, 1) := dk_3 (dk_at dksX3_setTarget_0 1 rfl rfl)
theorem dX3_setTarget_2 : decode cX3_setTarget 2 = .ok (.putfield 100, 3) := dk_181 0 100 (dk_at dksX3_setTarget_0 2 rfl rfl)
theorem dX3_setTarget_5 : decode cX3_setTarget 5 = .ok (.aload_n 0, 1) := dk_42 (dk_at dksX3_setTarget_0 5 rfl rfl)
theorem dX3_setTarget_6 : decode cX3_setTarget 6 = .ok (.iload_n 1, 1) := dk_27 (dk_at dksX3_setTarget_0 6 rfl rfl)
theorem dX3_setTarget_7 : decode cX3_setTarget 7 = .ok (.invokevirtual 115, 3) := dk_182 0 115 (dk_at dksX3_setTarget_0 7 rfl rfl)
theorem dX3_setTarget_10 : decode cX3_setTarget 10 = .ok (.ifCond .ne 9, 3) := dk_154 0 9 (dk_at dksX3_setTarget_0 10 rfl rfl)
theorem dX3_setTarget_13 : decode cX3_setTarget 13 = .ok (.aload_n 0, 1) := dk_42 (dk_at dksX3_setTarget_0 13 rfl rfl)
theorem dX3_setTarget_14 : decode cX3_setTarget 14 = .ok (.iconst 1, 1) := dk_4 (dk_at dksX3_setTarget_0 14 rfl rfl)
theorem dX3_setTarget_15 : decode cX3_setTarget 15 = .ok (.invokevirtual 141, 3) := dk_182 0 141 (dk_at dksX3_setTarget_0 15 rfl rfl)
theorem dX3_setTarget_18 : decode cX3_setTarget 18 = .ok (.ireturn, 1) := dk_172 (dk_at dksX3_setTarget_0 18 rfl rfl)
theorem dX3_setTarget_19 : decode cX3_setTarget 19 = .ok (.aload_n 0, 1) := dk_42 (dk_at dksX3_setTarget_0 19 rfl rfl)
theorem dX3_setTarget_20 : decode cX3_setTarget 20 = .ok (.invokevirtual 164, 3) := dk_182 0 164 (dk_at dksX3_setTarget_0 20 rfl rfl)
theorem dX3_setTarget_23 : decode cX3_setTarget 23 = .ok (.istore_n 2, 1) := dk_61 (dk_at dksX3_setTarget_0 23 rfl rfl)
theorem dX3_setTarget_24 : decode cX3_setTarget 24 = .ok (.aload_n 0, 1) := dk_42 (dk_at dksX3_setTarget_1 0 rfl rfl)
theorem dX3_setTarget_25 : decode cX3_setTarget 25 = .ok (.getfield 7, 3) := dk_180 0 7 (dk_at dksX3_setTarget_1 1 rfl rfl)
theorem dX3_setTarget_28 : decode cX3_setTarget 28 = .ok (.iconst 4, 1) := dk_7 (dk_at dksX3_setTarget_1 4 rfl rfl)
theorem dX3_setTarget_29 : decode cX3_setTarget 29 = .ok (.iload_n 1, 1) := dk_27 (dk_at dksX3_setTarget_1 5 rfl rfl)
theorem dX3_setTarget_30 : decode cX3_setTarget 30 = .ok (.iastore, 1) := dk_79 (dk_at dksX3_setTarget_1 6 rfl rfl)
theorem dX3_setTarget_31 : decode cX3_setTarget 31 = .ok (.iload_n 2, 1) := dk_28 (dk_at dksX3_setTarget_1 7 rfl rfl)
theorem dX3_setTarget_32 : decode cX3_setTarget 32 = .ok (.ireturn, 1) := dk_172 (dk_at dksX3_setTarget_1 8 rfl rfl)
abbrev cX3_addReader : ByteArray := prog_16_method_52_code
def yX3_addReader : MethodName := ⟨RX3, "addReader", "()I"⟩
def dkwX3_addReader_2 : List UInt8 := [172, 42, 3, 181, 0, 138, 42, 42, 180, 0, 36, 3, 47, 182, 0, 226, 172]
abbrev dktX3_addReader_2 : List UInt8 := dkwX3_addReader_2 ++ []
def dkwX3_addReader_1 : List UInt8 := [2, 159, 0, 9, 42, 4, 182, 0, 141, 172, 42, 182, 0, 123, 16, 6, 160, 0, 9, 42, 5, 182, 0, 141]
abbrev dktX3_addReader_1 : List UInt8 := dkwX3_addReader_1 ++ dktX3_addReader_2
def dkwX3_addReader_0 : List UInt8 := [42, 3, 181, 0, 100, 42, 4, 4, 182, 0, 171, 153, 0, 17, 42, 42, 180, 0, 36, 3, 47, 182, 0, 223]
abbrev dktX3_addReader_0 : List UInt8 := dkwX3_addReader_0 ++ dktX3_addReader_1
theorem dksX3_addReader_0 : cX3_addReader.data.toList.drop 0 = dktX3_addReader_0 := by decide +kernel
theorem dksX3_addReader_1 : cX3_addReader.data.toList.drop 24 = dktX3_addReader_1 := dk_seg dksX3_addReader_0 24 rfl rfl
theorem dksX3_addReader_2 : cX3_addReader.data.toList.drop 48 = dktX3_addReader_2 := dk_seg dksX3_addReader_1 24 rfl rfl
theorem dX3_addReader_0 : decode cX3_addReader 0 = .ok (.aload_n 0, 1) := dk_42 (dk_at dksX3_addReader_0 0 rfl rfl)
theorem dX3_addReader_1 : decode cX3_addReader 1 = .ok (.iconst 0, 1) := dk_3 (dk_at dksX3_addReader_0 1 rfl rfl)
theorem dX3_addReader_2 : decode cX3_addReader 2 = .ok (.putfield 100, 3) := dk_181 0 100 (dk_at dksX3_addReader_0 2 rfl rfl)
theorem dX3_addReader_5 : decode cX3_addReader 5 = .ok (.aload_n 0, 1) := dk_42 (dk_at dksX3_addReader_0 5 rfl rfl)
theorem dX3_addReader_6 : decode cX3_addReader 6 = .ok (.iconst 1, 1) := dk_4 (dk_at dksX3_addReader_0 6 rfl rfl)
theorem dX3_addReader_7 : decode cX3_addReader 7 = .ok (.iconst 1, 1) := dk_4 (dk_at dksX3_addReader_0 7 rfl rfl)
theorem dX3_addReader_8 : decode cX3_addReader 8 = .ok (.invokevirtual 171, 3) := dk_182 0 171 (dk_at dksX3_addReader_0 8 rfl rfl)
theorem dX3_addReader_11 : decode cX3_addReader 11 = .ok (.ifCond .eq 17, 3) := dk_153 0 17 (dk_at dksX3_addReader_0 11 rfl rfl)
theorem dX3_addReader_14 : decode cX3_addReader 14 = .ok (.aload_n 0, 1) := dk_42 (dk_at dksX3_addReader_0 14 rfl rfl)
theorem dX3_addReader_15 : decode cX3_addReader 15 = .ok (.aload_n 0, 1) := dk_42 (dk_at dksX3_addReader_0 15 rfl rfl)
theorem dX3_addReader_16 : decode cX3_addReader 16 = .ok (.getfield 36, 3) := dk_180 0 36 (dk_at dksX3_addReader_0 16 rfl rfl)
theorem dX3_addReader_19 : decode cX3_addReader 19 = .ok (.iconst 0, 1) := dk_3 (dk_at dksX3_addReader_0 19 rfl rfl)
theorem dX3_addReader_20 : decode cX3_addReader 20 = .ok (.laload, 1) := dk_47 (dk_at dksX3_addReader_0 20 rfl rfl)
theorem dX3_addReader_21 : decode cX3_addReader 21 = .ok (.invokevirtual 223, 3) := dk_182 0 223 (dk_at dksX3_addReader_0 21 rfl rfl)
theorem dX3_addReader_24 : decode cX3_addReader 24 = .ok (.iconst (-1), 1) := dk_2 (dk_at dksX3_addReader_1 0 rfl rfl)
theorem dX3_addReader_25 : decode cX3_addReader 25 = .ok (.if_icmp .eq 9, 3) := dk_159 0 9 (dk_at dksX3_addReader_1 1 rfl rfl)
theorem dX3_addReader_28 : decode cX3_addReader 28 = .ok (.aload_n 0, 1) := dk_42 (dk_at dksX3_addReader_1 4 rfl rfl)
theorem dX3_addReader_29 : decode cX3_addReader 29 = .ok (.iconst 1, 1) := dk_4 (dk_at dksX3_addReader_1 5 rfl rfl)
theorem dX3_addReader_30 : decode cX3_addReader 30 = .ok (.invokevirtual 141, 3) := dk_182 0 141 (dk_at dksX3_addReader_1 6 rfl rfl)
theorem dX3_addReader_33 : decode cX3_addReader 33 = .ok (.ireturn, 1) := dk_172 (dk_at dksX3_addReader_1 9 rfl rfl)
theorem dX3_addReader_34 : decode cX3_addReader 34 = .ok (.aload_n 0, 1) := dk_42 (dk_at dksX3_addReader_1 10 rfl rfl)
theorem dX3_addReader_35 : decode cX3_addReader 35 = .ok (.invokevirtual 123, 3) := dk_182 0 123 (dk_at dksX3_addReader_1 11 rfl rfl)
theorem dX3_addReader_38 : decode cX3_addReader 38 = .ok (.bipush 6, 2) := dk_16 6 (dk_at dksX3_addReader_1 14 rfl rfl)
theorem dX3_addReader_40 : decode cX3_addReader 40 = .ok (.if_icmp .ne 9, 3) := dk_160 0 9 (dk_at dksX3_addReader_1 16 rfl rfl)
theorem dX3_addReader_43 : decode cX3_addReader 43 = .ok (.aload_n 0, 1) := dk_42 (dk_at dksX3_addReader_1 19 rfl rfl)
theorem dX3_addReader_44 : decode cX3_addReader 44 = .ok (.iconst 2, 1) := dk_5 (dk_at dksX3_addReader_1 20 rfl rfl)
theorem dX3_addReader_45 : decode cX3_addReader 45 = .ok (.invokevirtual 141, 3) := dk_182 0 141 (dk_at dksX3_addReader_1 21 rfl rfl)
theorem dX3_addReader_48 : decode cX3_addReader 48 = .ok (.ireturn, 1) := dk_172 (dk_at dksX3_addReader_2 0 rfl rfl)
theorem dX3_addReader_49 : decode cX3_addReader 49 = .ok (.aload_n 0, 1) := dk_42 (dk_at dksX3_addReader_2 1 rfl rfl)
theorem dX3_addReader_50 : decode cX3_addReader 50 = .ok (.iconst 0, 1) := dk_3 (dk_at dksX3_addReader_2 2 rfl rfl)
theorem dX3_addReader_51 : decode cX3_addReader 51 = .ok (.putfield 138, 3) := dk_181 0 138 (dk_at dksX3_addReader_2 3 rfl rfl)
theorem dX3_addReader_54 : decode cX3_addReader 54 = .ok (.aload_n 0, 1) := dk_42 (dk_at dksX3_addReader_2 6 rfl rfl)
theorem dX3_addReader_55 : decode cX3_addReader 55 = .ok (.aload_n 0, 1) := dk_42 (dk_at dksX3_addReader_2 7 rfl rfl)
theorem dX3_addReader_56 : decode cX3_addReader 56 = .ok (.getfield 36, 3) := dk_180 0 36 (dk_at dksX3_addReader_2 8 rfl rfl)
theorem dX3_addReader_59 : decode cX3_addReader 59 = .ok (.iconst 0, 1) := dk_3 (dk_at dksX3_addReader_2 11 rfl rfl)
theorem dX3_addReader_60 : decode cX3_addReader 60 = .ok (.laload, 1) := dk_47 (dk_at dksX3_addReader_2 12 rfl rfl)
theorem dX3_addReader_61 : decode cX3_addReader 61 = .ok (.invokevirtual 226, 3) := dk_182 0 226 (dk_at dksX3_addReader_2 13 rfl rfl)
theorem dX3_addReader_64 : decode cX3_addReader 64 = .ok (.ireturn, 1) := dk_172 (dk_at dksX3_addReader_2 16 rfl rfl)
abbrev cX3_readerNamed : ByteArray := prog_16_method_50_code
def yX3_readerNamed : MethodName := ⟨RX3, "readerNamed", "(J)I"⟩
def dkwX3_readerNamed_1 : List UInt8 := [154, 0, 5, 29, 172, 132, 3, 1, 167, 255, 228, 2, 172]
abbrev dktX3_readerNamed_1 : List UInt8 := dkwX3_readerNamed_1 ++ []
def dkwX3_readerNamed_0 : List UInt8 := [3, 62, 29, 42, 182, 0, 123, 162, 0, 26, 42, 180, 0, 19, 17, 1, 104, 29, 96, 47, 31, 148]
abbrev dktX3_readerNamed_0 : List UInt8 := dkwX3_readerNamed_0 ++ dktX3_readerNamed_1
theorem dksX3_readerNamed_0 : cX3_readerNamed.data.toList.drop 0 = dktX3_readerNamed_0 := by decide +kernel
theorem dksX3_readerNamed_1 : cX3_readerNamed.data.toList.drop 22 = dktX3_readerNamed_1 := dk_seg dksX3_readerNamed_0 22 rfl rfl
theorem dX3_readerNamed_0 : decode cX3_readerNamed 0 = .ok (.iconst 0, 1) := dk_3 (dk_at dksX3_readerNamed_0 0 rfl rfl)
theorem dX3_readerNamed_1 : decode cX3_readerNamed 1 = .ok (.istore_n 3, 1) := dk_62 (dk_at dksX3_readerNamed_0 1 rfl rfl)
theorem dX3_readerNamed_2 : decode cX3_readerNamed 2 = .ok (.iload_n 3, 1) := dk_29 (dk_at dksX3_readerNamed_0 2 rfl rfl)
theorem dX3_readerNamed_3 : decode cX3_readerNamed 3 = .ok (.aload_n 0, 1) := dk_42 (dk_at dksX3_readerNamed_0 3 rfl rfl)
theorem dX3_readerNamed_4 : decode cX3_readerNamed 4 = .ok (.invokevirtual 123, 3) := dk_182 0 123 (dk_at dksX3_readerNamed_0 4 rfl rfl)
theorem dX3_readerNamed_7 : decode cX3_readerNamed 7 = .ok (.if_icmp .ge 26, 3) := dk_162 0 26 (dk_at dksX3_readerNamed_0 7 rfl rfl)
theorem dX3_readerNamed_10 : decode cX3_readerNamed 10 = .ok (.aload_n 0, 1) := dk_42 (dk_at dksX3_readerNamed_0 10 rfl rfl)
theorem dX3_readerNamed_11 : decode cX3_readerNamed 11 = .ok (.getfield 19, 3) := dk_180 0 19 (dk_at dksX3_readerNamed_0 11 rfl rfl)
theorem dX3_readerNamed_14 : decode cX3_readerNamed 14 = .ok (.sipush 360, 3) := dk_17 1 104 (dk_at dksX3_readerNamed_0 14 rfl rfl)
theorem dX3_readerNamed_17 : decode cX3_readerNamed 17 = .ok (.iload_n 3, 1) := dk_29 (dk_at dksX3_readerNamed_0 17 rfl rfl)
theorem dX3_readerNamed_18 : decode cX3_readerNamed 18 = .ok (.iadd, 1) := dk_96 (dk_at dksX3_readerNamed_0 18 rfl rfl)
theorem dX3_readerNamed_19 : decode cX3_readerNamed 19 = .ok (.laload, 1) := dk_47 (dk_at dksX3_readerNamed_0 19 rfl rfl)
theorem dX3_readerNamed_20 : decode cX3_readerNamed 20 = .ok (.lload_n 1, 1) := dk_31 (dk_at dksX3_readerNamed_0 20 rfl rfl)
theorem dX3_readerNamed_21 : decode cX3_readerNamed 21 = .ok (.lcmp, 1) := dk_148 (dk_at dksX3_readerNamed_0 21 rfl rfl)
theorem dX3_readerNamed_22 : decode cX3_readerNamed 22 = .ok (.ifCond .ne 5, 3) := dk_154 0 5 (dk_at dksX3_readerNamed_1 0 rfl rfl)
theorem dX3_readerNamed_25 : decode cX3_readerNamed 25 = .ok (.iload_n 3, 1) := dk_29 (dk_at dksX3_readerNamed_1 3 rfl rfl)
theorem dX3_readerNamed_26 : decode cX3_readerNamed 26 = .ok (.ireturn, 1) := dk_172 (dk_at dksX3_readerNamed_1 4 rfl rfl)
theorem dX3_readerNamed_27 : decode cX3_readerNamed 27 = .ok (.iinc 3 1, 3) := dk_132 3 1 (dk_at dksX3_readerNamed_1 5 rfl rfl)
theorem dX3_readerNamed_30 : decode cX3_readerNamed 30 = .ok (.goto (-28), 3) := dk_167 255 228 (dk_at dksX3_readerNamed_1 8 rfl rfl)
theorem dX3_readerNamed_33 : decode cX3_readerNamed 33 = .ok (.iconst (-1), 1) := dk_2 (dk_at dksX3_readerNamed_1 11 rfl rfl)
theorem dX3_readerNamed_34 : decode cX3_readerNamed 34 = .ok (.ireturn, 1) := dk_172 (dk_at dksX3_readerNamed_1 12 rfl rfl)
abbrev cX3_readers : ByteArray := prog_16_method_8_code
def yX3_readers : MethodName := ⟨RX3, "readers", "()I"⟩
def dkwX3_readers_0 : List UInt8 := [42, 180, 0, 7, 4, 46, 172]
abbrev dktX3_readers_0 : List UInt8 := dkwX3_readers_0 ++ []
theorem dksX3_readers_0 : cX3_readers.data.toList.drop 0 = dktX3_readers_0 := by decide +kernel
theorem dX3_readers_0 : decode cX3_readers 0 = .ok (.aload_n 0, 1) := dk_42 (dk_at dksX3_readers_0 0 rfl rfl)
theorem dX3_readers_1 : decode cX3_readers 1 = .ok (.getfield 7, 3) := dk_180 0 7 (dk_at dksX3_readers_0 1 rfl rfl)
theorem dX3_readers_4 : decode cX3_readers 4 = .ok (.iconst 1, 1) := dk_4 (dk_at dksX3_readers_0 4 rfl rfl)
theorem dX3_readers_5 : decode cX3_readers 5 = .ok (.iaload, 1) := dk_46 (dk_at dksX3_readers_0 5 rfl rfl)
theorem dX3_readers_6 : decode cX3_readers 6 = .ok (.ireturn, 1) := dk_172 (dk_at dksX3_readers_0 6 rfl rfl)
abbrev cX3_appendReader : ByteArray := prog_16_method_51_code
def yX3_appendReader : MethodName := ⟨RX3, "appendReader", "(J)I"⟩
def dkwX3_appendReader_1 : List UInt8 := [42, 182, 0, 123, 4, 100, 172]
abbrev dktX3_appendReader_1 : List UInt8 := dkwX3_appendReader_1 ++ []
def dkwX3_appendReader_0 : List UInt8 := [42, 180, 0, 19, 17, 1, 104, 42, 182, 0, 123, 96, 31, 80, 42, 180, 0, 7, 4, 92, 46, 4, 96, 79]
abbrev dktX3_appendReader_0 : List UInt8 := dkwX3_appendReader_0 ++ dktX3_appendReader_1
theorem dksX3_appendReader_0 : cX3_appendReader.data.toList.drop 0 = dktX3_appendReader_0 := by decide +kernel
theorem dksX3_appendReader_1 : cX3_appendReader.data.toList.drop 24 = dktX3_appendReader_1 := dk_seg dksX3_appendReader_0 24 rfl rfl
theorem dX3_appendReader_0 : decode cX3_appendReader 0 = .ok (.aload_n 0, 1) := dk_42 (dk_at dksX3_appendReader_0 0 rfl rfl)
theorem dX3_appendReader_1 : decode cX3_appendReader 1 = .ok (.getfield 19, 3) := dk_180 0 19 (dk_at dksX3_appendReader_0 1 rfl rfl)
theorem dX3_appendReader_4 : decode cX3_appendReader 4 = .ok (.sipush 360, 3) := dk_17 1 104 (dk_at dksX3_appendReader_0 4 rfl rfl)
theorem dX3_appendReader_7 : decode cX3_appendReader 7 = .ok (.aload_n 0, 1) := dk_42 (dk_at dksX3_appendReader_0 7 rfl rfl)
theorem dX3_appendReader_8 : decode cX3_appendReader 8 = .ok (.invokevirtual 123, 3) := dk_182 0 123 (dk_at dksX3_appendReader_0 8 rfl rfl)
theorem dX3_appendReader_11 : decode cX3_appendReader 11 = .ok (.iadd, 1) := dk_96 (dk_at dksX3_appendReader_0 11 rfl rfl)
theorem dX3_appendReader_12 : decode cX3_appendReader 12 = .ok (.lload_n 1, 1) := dk_31 (dk_at dksX3_appendReader_0 12 rfl rfl)
theorem dX3_appendReader_13 : decode cX3_appendReader 13 = .ok (.lastore, 1) := dk_80 (dk_at dksX3_appendReader_0 13 rfl rfl)
theorem dX3_appendReader_14 : decode cX3_appendReader 14 = .ok (.aload_n 0, 1) := dk_42 (dk_at dksX3_appendReader_0 14 rfl rfl)
theorem dX3_appendReader_15 : decode cX3_appendReader 15 = .ok (.getfield 7, 3) := dk_180 0 7 (dk_at dksX3_appendReader_0 15 rfl rfl)
theorem dX3_appendReader_18 : decode cX3_appendReader 18 = .ok (.iconst 1, 1) := dk_4 (dk_at dksX3_appendReader_0 18 rfl rfl)
theorem dX3_appendReader_19 : decode cX3_appendReader 19 = .ok (.dup2, 1) := dk_92 (dk_at dksX3_appendReader_0 19 rfl rfl)
theorem dX3_appendReader_20 : decode cX3_appendReader 20 = .ok (.iaload, 1) := dk_46 (dk_at dksX3_appendReader_0 20 rfl rfl)
theorem dX3_appendReader_21 : decode cX3_appendReader 21 = .ok (.iconst 1, 1) := dk_4 (dk_at dksX3_appendReader_0 21 rfl rfl)
theorem dX3_appendReader_22 : decode cX3_appendReader 22 = .ok (.iadd, 1) := dk_96 (dk_at dksX3_appendReader_0 22 rfl rfl)
theorem dX3_appendReader_23 : decode cX3_appendReader 23 = .ok (.iastore, 1) := dk_79 (dk_at dksX3_appendReader_0 23 rfl rfl)
theorem dX3_appendReader_24 : decode cX3_appendReader 24 = .ok (.aload_n 0, 1) := dk_42 (dk_at dksX3_appendReader_1 0 rfl rfl)
theorem dX3_appendReader_25 : decode cX3_appendReader 25 = .ok (.invokevirtual 123, 3) := dk_182 0 123 (dk_at dksX3_appendReader_1 1 rfl rfl)
theorem dX3_appendReader_28 : decode cX3_appendReader 28 = .ok (.iconst 1, 1) := dk_4 (dk_at dksX3_appendReader_1 4 rfl rfl)
theorem dX3_appendReader_29 : decode cX3_appendReader 29 = .ok (.isub, 1) := dk_100 (dk_at dksX3_appendReader_1 5 rfl rfl)
theorem dX3_appendReader_30 : decode cX3_appendReader 30 = .ok (.ireturn, 1) := dk_172 (dk_at dksX3_appendReader_1 6 rfl rfl)
abbrev cX3_addNote : ByteArray := prog_16_method_55_code
def yX3_addNote : MethodName := ⟨RX3, "addNote", "(IIIII)I"⟩
def dkwX3_addNote_5 : List UInt8 := [21, 7, 47, 182, 0, 236, 132, 7, 1, 167, 255, 231, 42, 3, 181, 0, 138, 21, 6, 172]
abbrev dktX3_addNote_5 : List UInt8 := dkwX3_addNote_5 ++ []
def dkwX3_addNote_4 : List UInt8 := [182, 0, 232, 54, 6, 3, 54, 7, 21, 7, 42, 180, 0, 144, 162, 0, 22, 42, 21, 6, 42, 180, 0, 36]
abbrev dktX3_addNote_4 : List UInt8 := dkwX3_addNote_4 ++ dktX3_addNote_5
def dkwX3_addNote_3 : List UInt8 := [182, 0, 126, 16, 40, 160, 0, 9, 42, 6, 182, 0, 141, 172, 42, 27, 28, 29, 21, 4, 21, 5]
abbrev dktX3_addNote_3 : List UInt8 := dkwX3_addNote_3 ++ dktX3_addNote_4
def dkwX3_addNote_2 : List UInt8 := [6, 184, 0, 111, 153, 0, 13, 42, 3, 16, 6, 182, 0, 171, 154, 0, 9, 42, 5, 182, 0, 141, 172, 42]
abbrev dktX3_addNote_2 : List UInt8 := dkwX3_addNote_2 ++ dktX3_addNote_3
def dkwX3_addNote_1 : List UInt8 := [29, 21, 5, 182, 0, 198, 153, 0, 10, 21, 4, 21, 5, 164, 0, 9, 42, 4, 182, 0, 141, 172, 28, 3]
abbrev dktX3_addNote_1 : List UInt8 := dkwX3_addNote_1 ++ dktX3_addNote_2
def dkwX3_addNote_0 : List UInt8 := [42, 3, 181, 0, 100, 42, 27, 182, 0, 229, 153, 0, 30, 42, 29, 21, 4, 182, 0, 198, 153, 0, 20, 42]
abbrev dktX3_addNote_0 : List UInt8 := dkwX3_addNote_0 ++ dktX3_addNote_1
theorem dksX3_addNote_0 : cX3_addNote.data.toList.drop 0 = dktX3_addNote_0 := by decide +kernel
theorem dksX3_addNote_1 : cX3_addNote.data.toList.drop 24 = dktX3_addNote_1 := dk_seg dksX3_addNote_0 24 rfl rfl
theorem dksX3_addNote_2 : cX3_addNote.data.toList.drop 48 = dktX3_addNote_2 := dk_seg dksX3_addNote_1 24 rfl rfl
theorem dksX3_addNote_3 : cX3_addNote.data.toList.drop 72 = dktX3_addNote_3 := dk_seg dksX3_addNote_2 24 rfl rfl
theorem dksX3_addNote_4 : cX3_addNote.data.toList.drop 94 = dktX3_addNote_4 := dk_seg dksX3_addNote_3 22 rfl rfl
theorem dksX3_addNote_5 : cX3_addNote.data.toList.drop 118 = dktX3_addNote_5 := dk_seg dksX3_addNote_4 24 rfl rfl
theorem dX3_addNote_0 : decode cX3_addNote 0 = .ok (.aload_n 0, 1) := dk_42 (dk_at dksX3_addNote_0 0 rfl rfl)
theorem dX3_addNote_1 : decode cX3_addNote 1 = .ok (.iconst 0, 1) := dk_3 (dk_at dksX3_addNote_0 1 rfl rfl)
theorem dX3_addNote_2 : decode cX3_addNote 2 = .ok (.putfield 100, 3) := dk_181 0 100 (dk_at dksX3_addNote_0 2 rfl rfl)
theorem dX3_addNote_5 : decode cX3_addNote 5 = .ok (.aload_n 0, 1) := dk_42 (dk_at dksX3_addNote_0 5 rfl rfl)
theorem dX3_addNote_6 : decode cX3_addNote 6 = .ok (.iload_n 1, 1) := dk_27 (dk_at dksX3_addNote_0 6 rfl rfl)
theorem dX3_addNote_7 : decode cX3_addNote 7 = .ok (.invokevirtual 229, 3) := dk_182 0 229 (dk_at dksX3_addNote_0 7 rfl rfl)
theorem dX3_addNote_10 : decode cX3_addNote 10 = .ok (.ifCond .eq 30, 3) := dk_153 0 30 (dk_at dksX3_addNote_0 10 rfl rfl)
theorem dX3_addNote_13 : decode cX3_addNote 13 = .ok (.aload_n 0, 1) := dk_42 (dk_at dksX3_addNote_0 13 rfl rfl)
theorem dX3_addNote_14 : decode cX3_addNote 14 = .ok (.iload_n 3, 1) := dk_29 (dk_at dksX3_addNote_0 14 rfl rfl)
theorem dX3_addNote_15 : decode cX3_addNote 15 = .ok (.iload 4, 2) := dk_21 4 (dk_at dksX3_addNote_0 15 rfl rfl)
theorem dX3_addNote_17 : decode cX3_addNote 17 = .ok (.invokevirtual 198, 3) := dk_182 0 198 (dk_at dksX3_addNote_0 17 rfl rfl)
theorem dX3_addNote_20 : decode cX3_addNote 20 = .ok (.ifCond .eq 20, 3) := dk_153 0 20 (dk_at dksX3_addNote_0 20 rfl rfl)
theorem dX3_addNote_23 : decode cX3_addNote 23 = .ok (.aload_n 0, 1) := dk_42 (dk_at dksX3_addNote_0 23 rfl rfl)
theorem dX3_addNote_24 : decode cX3_addNote 24 = .ok (.iload_n 3, 1) := dk_29 (dk_at dksX3_addNote_1 0 rfl rfl)
theorem dX3_addNote_25 : decode cX3_addNote 25 = .ok (.iload 5, 2) := dk_21 5 (dk_at dksX3_addNote_1 1 rfl rfl)
theorem dX3_addNote_27 : decode cX3_addNote 27 = .ok (.invokevirtual 198, 3) := dk_182 0 198 (dk_at dksX3_addNote_1 3 rfl rfl)
theorem dX3_addNote_30 : decode cX3_addNote 30 = .ok (.ifCond .eq 10, 3) := dk_153 0 10 (dk_at dksX3_addNote_1 6 rfl rfl)
theorem dX3_addNote_33 : decode cX3_addNote 33 = .ok (.iload 4, 2) := dk_21 4 (dk_at dksX3_addNote_1 9 rfl rfl)
theorem dX3_addNote_35 : decode cX3_addNote 35 = .ok (.iload 5, 2) := dk_21 5 (dk_at dksX3_addNote_1 11 rfl rfl)
theorem dX3_addNote_37 : decode cX3_addNote 37 = .ok (.if_icmp .le 9, 3) := dk_164 0 9 (dk_at dksX3_addNote_1 13 rfl rfl)
theorem dX3_addNote_40 : decode cX3_addNote 40 = .ok (.aload_n 0, 1) := dk_42 (dk_at dksX3_addNote_1 16 rfl rfl)
theorem dX3_addNote_41 : decode cX3_addNote 41 = .ok (.iconst 1, 1) := dk_4 (dk_at dksX3_addNote_1 17 rfl rfl)
theorem dX3_addNote_42 : decode cX3_addNote 42 = .ok (.invokevirtual 141, 3) := dk_182 0 141 (dk_at dksX3_addNote_1 18 rfl rfl)
theorem dX3_addNote_45 : decode cX3_addNote 45 = .ok (.ireturn, 1) := dk_172 (dk_at dksX3_addNote_1 21 rfl rfl)
theorem dX3_addNote_46 : decode cX3_addNote 46 = .ok (.iload_n 2, 1) := dk_28 (dk_at dksX3_addNote_1 22 rfl rfl)
theorem dX3_addNote_47 : decode cX3_addNote 47 = .ok (.iconst 0, 1) := dk_3 (dk_at dksX3_addNote_1 23 rfl rfl)
theorem dX3_addNote_48 : decode cX3_addNote 48 = .ok (.iconst 3, 1) := dk_6 (dk_at dksX3_addNote_2 0 rfl rfl)
theorem dX3_addNote_49 : decode cX3_addNote 49 = .ok (.invokestatic 111, 3) := dk_184 0 111 (dk_at dksX3_addNote_2 1 rfl rfl)
theorem dX3_addNote_52 : decode cX3_addNote 52 = .ok (.ifCond .eq 13, 3) := dk_153 0 13 (dk_at dksX3_addNote_2 4 rfl rfl)
theorem dX3_addNote_55 : decode cX3_addNote 55 = .ok (.aload_n 0, 1) := dk_42 (dk_at dksX3_addNote_2 7 rfl rfl)
theorem dX3_addNote_56 : decode cX3_addNote 56 = .ok (.iconst 0, 1) := dk_3 (dk_at dksX3_addNote_2 8 rfl rfl)
theorem dX3_addNote_57 : decode cX3_addNote 57 = .ok (.bipush 6, 2) := dk_16 6 (dk_at dksX3_addNote_2 9 rfl rfl)
theorem dX3_addNote_59 : decode cX3_addNote 59 = .ok (.invokevirtual 171, 3) := dk_182 0 171 (dk_at dksX3_addNote_2 11 rfl rfl)
theorem dX3_addNote_62 : decode cX3_addNote 62 = .ok (.ifCond .ne 9, 3) := dk_154 0 9 (dk_at dksX3_addNote_2 14 rfl rfl)
theorem dX3_addNote_65 : decode cX3_addNote 65 = .ok (.aload_n 0, 1) := dk_42 (dk_at dksX3_addNote_2 17 rfl rfl)
theorem dX3_addNote_66 : decode cX3_addNote 66 = .ok (.iconst 2, 1) := dk_5 (dk_at dksX3_addNote_2 18 rfl rfl)
theorem dX3_addNote_67 : decode cX3_addNote 67 = .ok (.invokevirtual 141, 3) := dk_182 0 141 (dk_at dksX3_addNote_2 19 rfl rfl)
theorem dX3_addNote_70 : decode cX3_addNote 70 = .ok (.ireturn, 1) := dk_172 (dk_at dksX3_addNote_2 22 rfl rfl)
theorem dX3_addNote_71 : decode cX3_addNote 71 = .ok (.aload_n 0, 1) := dk_42 (dk_at dksX3_addNote_2 23 rfl rfl)
theorem dX3_addNote_72 : decode cX3_addNote 72 = .ok (.invokevirtual 126, 3) := dk_182 0 126 (dk_at dksX3_addNote_3 0 rfl rfl)
theorem dX3_addNote_75 : decode cX3_addNote 75 = .ok (.bipush 40, 2) := dk_16 40 (dk_at dksX3_addNote_3 3 rfl rfl)
theorem dX3_addNote_77 : decode cX3_addNote 77 = .ok (.if_icmp .ne 9, 3) := dk_160 0 9 (dk_at dksX3_addNote_3 5 rfl rfl)
theorem dX3_addNote_80 : decode cX3_addNote 80 = .ok (.aload_n 0, 1) := dk_42 (dk_at dksX3_addNote_3 8 rfl rfl)
theorem dX3_addNote_81 : decode cX3_addNote 81 = .ok (.iconst 3, 1) := dk_6 (dk_at dksX3_addNote_3 9 rfl rfl)
theorem dX3_addNote_82 : decode cX3_addNote 82 = .ok (.invokevirtual 141, 3) := dk_182 0 141 (dk_at dksX3_addNote_3 10 rfl rfl)
theorem dX3_addNote_85 : decode cX3_addNote 85 = .ok (.ireturn, 1) := dk_172 (dk_at dksX3_addNote_3 13 rfl rfl)
theorem dX3_addNote_86 : decode cX3_addNote 86 = .ok (.aload_n 0, 1) := dk_42 (dk_at dksX3_addNote_3 14 rfl rfl)
theorem dX3_addNote_87 : decode cX3_addNote 87 = .ok (.iload_n 1, 1) := dk_27 (dk_at dksX3_addNote_3 15 rfl rfl)
theorem dX3_addNote_88 : decode cX3_addNote 88 = .ok (.iload_n 2, 1) := dk_28 (dk_at dksX3_addNote_3 16 rfl rfl)
theorem dX3_addNote_89 : decode cX3_addNote 89 = .ok (.iload_n 3, 1) := dk_29 (dk_at dksX3_addNote_3 17 rfl rfl)
theorem dX3_addNote_90 : decode cX3_addNote 90 = .ok (.iload 4, 2) := dk_21 4 (dk_at dksX3_addNote_3 18 rfl rfl)
theorem dX3_addNote_92 : decode cX3_addNote 92 = .ok (.iload 5, 2) := dk_21 5 (dk_at dksX3_addNote_3 20 rfl rfl)
theorem dX3_addNote_94 : decode cX3_addNote 94 = .ok (.invokevirtual 232, 3) := dk_182 0 232 (dk_at dksX3_addNote_4 0 rfl rfl)
theorem dX3_addNote_97 : decode cX3_addNote 97 = .ok (.istore 6, 2) := dk_54 6 (dk_at dksX3_addNote_4 3 rfl rfl)
theorem dX3_addNote_99 : decode cX3_addNote 99 = .ok (.iconst 0, 1) := dk_3 (dk_at dksX3_addNote_4 5 rfl rfl)
theorem dX3_addNote_100 : decode cX3_addNote 100 = .ok (.istore 7, 2) := dk_54 7 (dk_at dksX3_addNote_4 6 rfl rfl)
theorem dX3_addNote_102 : decode cX3_addNote 102 = .ok (.iload 7, 2) := dk_21 7 (dk_at dksX3_addNote_4 8 rfl rfl)
theorem dX3_addNote_104 : decode cX3_addNote 104 = .ok (.aload_n 0, 1) := dk_42 (dk_at dksX3_addNote_4 10 rfl rfl)
theorem dX3_addNote_105 : decode cX3_addNote 105 = .ok (.getfield 144, 3) := dk_180 0 144 (dk_at dksX3_addNote_4 11 rfl rfl)
theorem dX3_addNote_108 : decode cX3_addNote 108 = .ok (.if_icmp .ge 22, 3) := dk_162 0 22 (dk_at dksX3_addNote_4 14 rfl rfl)
theorem dX3_addNote_111 : decode cX3_addNote 111 = .ok (.aload_n 0, 1) := dk_42 (dk_at dksX3_addNote_4 17 rfl rfl)
theorem dX3_addNote_112 : decode cX3_addNote 112 = .ok (.iload 6, 2) := dk_21 6 (dk_at dksX3_addNote_4 18 rfl rfl)
theorem dX3_addNote_114 : decode cX3_addNote 114 = .ok (.aload_n 0, 1) := dk_42 (dk_at dksX3_addNote_4 20 rfl rfl)
theorem dX3_addNote_115 : decode cX3_addNote 115 = .ok (.getfield 36, 3) := dk_180 0 36 (dk_at dksX3_addNote_4 21 rfl rfl)
theorem dX3_addNote_118 : decode cX3_addNote 118 = .ok (.iload 7, 2) := dk_21 7 (dk_at dksX3_addNote_5 0 rfl rfl)
theorem dX3_addNote_120 : decode cX3_addNote 120 = .ok (.laload, 1) := dk_47 (dk_at dksX3_addNote_5 2 rfl rfl)
theorem dX3_addNote_121 : decode cX3_addNote 121 = .ok (.invokevirtual 236, 3) := dk_182 0 236 (dk_at dksX3_addNote_5 3 rfl rfl)
theorem dX3_addNote_124 : decode cX3_addNote 124 = .ok (.iinc 7 1, 3) := dk_132 7 1 (dk_at dksX3_addNote_5 6 rfl rfl)
theorem dX3_addNote_127 : decode cX3_addNote 127 = .ok (.goto (-25), 3) := dk_167 255 231 (dk_at dksX3_addNote_5 9 rfl rfl)
theorem dX3_addNote_130 : decode cX3_addNote 130 = .ok (.aload_n 0, 1) := dk_42 (dk_at dksX3_addNote_5 12 rfl rfl)
theorem dX3_addNote_131 : decode cX3_addNote 131 = .ok (.iconst 0, 1) := dk_3 (dk_at dksX3_addNote_5 13 rfl rfl)
theorem dX3_addNote_132 : decode cX3_addNote 132 = .ok (.putfield 138, 3) := dk_181 0 138 (dk_at dksX3_addNote_5 14 rfl rfl)
theorem dX3_addNote_135 : decode cX3_addNote 135 = .ok (.iload 6, 2) := dk_21 6 (dk_at dksX3_addNote_5 17 rfl rfl)
theorem dX3_addNote_137 : decode cX3_addNote 137 = .ok (.ireturn, 1) := dk_172 (dk_at dksX3_addNote_5 19 rfl rfl)
abbrev cX3_isReader : ByteArray := prog_16_method_16_code
def yX3_isReader : MethodName := ⟨RX3, "isReader", "(I)Z"⟩
def dkwX3_isReader_0 : List UInt8 := [27, 3, 42, 182, 0, 123, 4, 100, 184, 0, 111, 172]
abbrev dktX3_isReader_0 : List UInt8 := dkwX3_isReader_0 ++ []
theorem dksX3_isReader_0 : cX3_isReader.data.toList.drop 0 = dktX3_isReader_0 := by decide +kernel
theorem dX3_isReader_0 : decode cX3_isReader 0 = .ok (.iload_n 1, 1) := dk_27 (dk_at dksX3_isReader_0 0 rfl rfl)
theorem dX3_isReader_1 : decode cX3_isReader 1 = .ok (.iconst 0, 1) := dk_3 (dk_at dksX3_isReader_0 1 rfl rfl)
theorem dX3_isReader_2 : decode cX3_isReader 2 = .ok (.aload_n 0, 1) := dk_42 (dk_at dksX3_isReader_0 2 rfl rfl)
theorem dX3_isReader_3 : decode cX3_isReader 3 = .ok (.invokevirtual 123, 3) := dk_182 0 123 (dk_at dksX3_isReader_0 3 rfl rfl)
theorem dX3_isReader_6 : decode cX3_isReader 6 = .ok (.iconst 1, 1) := dk_4 (dk_at dksX3_isReader_0 6 rfl rfl)
theorem dX3_isReader_7 : decode cX3_isReader 7 = .ok (.isub, 1) := dk_100 (dk_at dksX3_isReader_0 7 rfl rfl)
theorem dX3_isReader_8 : decode cX3_isReader 8 = .ok (.invokestatic 111, 3) := dk_184 0 111 (dk_at dksX3_isReader_0 8 rfl rfl)
theorem dX3_isReader_11 : decode cX3_isReader 11 = .ok (.ireturn, 1) := dk_172 (dk_at dksX3_isReader_0 11 rfl rfl)
abbrev cX3_appendNote : ByteArray := prog_16_method_53_code
def yX3_appendNote : MethodName := ⟨RX3, "appendNote", "(IIIII)I"⟩
def dkwX3_appendNote_3 : List UInt8 := [8, 96, 3, 79, 42, 180, 0, 7, 5, 92, 46, 4, 96, 79, 42, 182, 0, 126, 4, 100, 172]
abbrev dktX3_appendNote_3 : List UInt8 := dkwX3_appendNote_3 ++ []
def dkwX3_appendNote_2 : List UInt8 := [21, 6, 6, 96, 21, 4, 79, 42, 180, 0, 7, 21, 6, 7, 96, 21, 5, 79, 42, 180, 0, 7, 21, 6]
abbrev dktX3_appendNote_2 : List UInt8 := dkwX3_appendNote_2 ++ dktX3_appendNote_3
def dkwX3_appendNote_1 : List UInt8 := [180, 0, 7, 21, 6, 4, 96, 28, 79, 42, 180, 0, 7, 21, 6, 5, 96, 29, 79, 42, 180, 0, 7]
abbrev dktX3_appendNote_1 : List UInt8 := dkwX3_appendNote_1 ++ dktX3_appendNote_2
def dkwX3_appendNote_0 : List UInt8 := [17, 1, 118, 16, 6, 42, 182, 0, 126, 104, 96, 54, 6, 42, 180, 0, 7, 21, 6, 3, 96, 27, 79, 42]
abbrev dktX3_appendNote_0 : List UInt8 := dkwX3_appendNote_0 ++ dktX3_appendNote_1
theorem dksX3_appendNote_0 : cX3_appendNote.data.toList.drop 0 = dktX3_appendNote_0 := by decide +kernel
theorem dksX3_appendNote_1 : cX3_appendNote.data.toList.drop 24 = dktX3_appendNote_1 := dk_seg dksX3_appendNote_0 24 rfl rfl
theorem dksX3_appendNote_2 : cX3_appendNote.data.toList.drop 47 = dktX3_appendNote_2 := dk_seg dksX3_appendNote_1 23 rfl rfl
theorem dksX3_appendNote_3 : cX3_appendNote.data.toList.drop 71 = dktX3_appendNote_3 := dk_seg dksX3_appendNote_2 24 rfl rfl
theorem dX3_appendNote_0 : decode cX3_appendNote 0 = .ok (.sipush 374, 3) := dk_17 1 118 (dk_at dksX3_appendNote_0 0 rfl rfl)
theorem dX3_appendNote_3 : decode cX3_appendNote 3 = .ok (.bipush 6, 2) := dk_16 6 (dk_at dksX3_appendNote_0 3 rfl rfl)
theorem dX3_appendNote_5 : decode cX3_appendNote 5 = .ok (.aload_n 0, 1) := dk_42 (dk_at dksX3_appendNote_0 5 rfl rfl)
theorem dX3_appendNote_6 : decode cX3_appendNote 6 = .ok (.invokevirtual 126, 3) := dk_182 0 126 (dk_at dksX3_appendNote_0 6 rfl rfl)
theorem dX3_appendNote_9 : decode cX3_appendNote 9 = .ok (.imul, 1) := dk_104 (dk_at dksX3_appendNote_0 9 rfl rfl)
theorem dX3_appendNote_10 : decode cX3_appendNote 10 = .ok (.iadd, 1) := dk_96 (dk_at dksX3_appendNote_0 10 rfl rfl)
theorem dX3_appendNote_11 : decode cX3_appendNote 11 = .ok (.istore 6, 2) := dk_54 6 (dk_at dksX3_appendNote_0 11 rfl rfl)
theorem dX3_appendNote_13 : decode cX3_appendNote 13 = .ok (.aload_n 0, 1) := dk_42 (dk_at dksX3_appendNote_0 13 rfl rfl)
theorem dX3_appendNote_14 : decode cX3_appendNote 14 = .ok (.getfield 7, 3) := dk_180 0 7 (dk_at dksX3_appendNote_0 14 rfl rfl)
theorem dX3_appendNote_17 : decode cX3_appendNote 17 = .ok (.iload 6, 2) := dk_21 6 (dk_at dksX3_appendNote_0 17 rfl rfl)
theorem dX3_appendNote_19 : decode cX3_appendNote 19 = .ok (.iconst 0, 1) := dk_3 (dk_at dksX3_appendNote_0 19 rfl rfl)
theorem dX3_appendNote_20 : decode cX3_appendNote 20 = .ok (.iadd, 1) := dk_96 (dk_at dksX3_appendNote_0 20 rfl rfl)
theorem dX3_appendNote_21 : decode cX3_appendNote 21 = .ok (.iload_n 1, 1) := dk_27 (dk_at dksX3_appendNote_0 21 rfl rfl)
theorem dX3_appendNote_22 : decode cX3_appendNote 22 = .ok (.iastore, 1) := dk_79 (dk_at dksX3_appendNote_0 22 rfl rfl)
theorem dX3_appendNote_23 : decode cX3_appendNote 23 = .ok (.aload_n 0, 1) := dk_42 (dk_at dksX3_appendNote_0 23 rfl rfl)
theorem dX3_appendNote_24 : decode cX3_appendNote 24 = .ok (.getfield 7, 3) := dk_180 0 7 (dk_at dksX3_appendNote_1 0 rfl rfl)
theorem dX3_appendNote_27 : decode cX3_appendNote 27 = .ok (.iload 6, 2) := dk_21 6 (dk_at dksX3_appendNote_1 3 rfl rfl)
theorem dX3_appendNote_29 : decode cX3_appendNote 29 = .ok (.iconst 1, 1) := dk_4 (dk_at dksX3_appendNote_1 5 rfl rfl)
theorem dX3_appendNote_30 : decode cX3_appendNote 30 = .ok (.iadd, 1) := dk_96 (dk_at dksX3_appendNote_1 6 rfl rfl)
theorem dX3_appendNote_31 : decode cX3_appendNote 31 = .ok (.iload_n 2, 1) := dk_28 (dk_at dksX3_appendNote_1 7 rfl rfl)
theorem dX3_appendNote_32 : decode cX3_appendNote 32 = .ok (.iastore, 1) := dk_79 (dk_at dksX3_appendNote_1 8 rfl rfl)
theorem dX3_appendNote_33 : decode cX3_appendNote 33 = .ok (.aload_n 0, 1) := dk_42 (dk_at dksX3_appendNote_1 9 rfl rfl)
theorem dX3_appendNote_34 : decode cX3_appendNote 34 = .ok (.getfield 7, 3) := dk_180 0 7 (dk_at dksX3_appendNote_1 10 rfl rfl)
theorem dX3_appendNote_37 : decode cX3_appendNote 37 = .ok (.iload 6, 2) := dk_21 6 (dk_at dksX3_appendNote_1 13 rfl rfl)
theorem dX3_appendNote_39 : decode cX3_appendNote 39 = .ok (.iconst 2, 1) := dk_5 (dk_at dksX3_appendNote_1 15 rfl rfl)
theorem dX3_appendNote_40 : decode cX3_appendNote 40 = .ok (.iadd, 1) := dk_96 (dk_at dksX3_appendNote_1 16 rfl rfl)
theorem dX3_appendNote_41 : decode cX3_appendNote 41 = .ok (.iload_n 3, 1) := dk_29 (dk_at dksX3_appendNote_1 17 rfl rfl)
theorem dX3_appendNote_42 : decode cX3_appendNote 42 = .ok (.iastore, 1) := dk_79 (dk_at dksX3_appendNote_1 18 rfl rfl)
theorem dX3_appendNote_43 : decode cX3_appendNote 43 = .ok (.aload_n 0, 1) := dk_42 (dk_at dksX3_appendNote_1 19 rfl rfl)
theorem dX3_appendNote_44 : decode cX3_appendNote 44 = .ok (.getfield 7, 3) := dk_180 0 7 (dk_at dksX3_appendNote_1 20 rfl rfl)
theorem dX3_appendNote_47 : decode cX3_appendNote 47 = .ok (.iload 6, 2) := dk_21 6 (dk_at dksX3_appendNote_2 0 rfl rfl)
theorem dX3_appendNote_49 : decode cX3_appendNote 49 = .ok (.iconst 3, 1) := dk_6 (dk_at dksX3_appendNote_2 2 rfl rfl)
theorem dX3_appendNote_50 : decode cX3_appendNote 50 = .ok (.iadd, 1) := dk_96 (dk_at dksX3_appendNote_2 3 rfl rfl)
theorem dX3_appendNote_51 : decode cX3_appendNote 51 = .ok (.iload 4, 2) := dk_21 4 (dk_at dksX3_appendNote_2 4 rfl rfl)
theorem dX3_appendNote_53 : decode cX3_appendNote 53 = .ok (.iastore, 1) := dk_79 (dk_at dksX3_appendNote_2 6 rfl rfl)
theorem dX3_appendNote_54 : decode cX3_appendNote 54 = .ok (.aload_n 0, 1) := dk_42 (dk_at dksX3_appendNote_2 7 rfl rfl)
theorem dX3_appendNote_55 : decode cX3_appendNote 55 = .ok (.getfield 7, 3) := dk_180 0 7 (dk_at dksX3_appendNote_2 8 rfl rfl)
theorem dX3_appendNote_58 : decode cX3_appendNote 58 = .ok (.iload 6, 2) := dk_21 6 (dk_at dksX3_appendNote_2 11 rfl rfl)
theorem dX3_appendNote_60 : decode cX3_appendNote 60 = .ok (.iconst 4, 1) := dk_7 (dk_at dksX3_appendNote_2 13 rfl rfl)
theorem dX3_appendNote_61 : decode cX3_appendNote 61 = .ok (.iadd, 1) := dk_96 (dk_at dksX3_appendNote_2 14 rfl rfl)
theorem dX3_appendNote_62 : decode cX3_appendNote 62 = .ok (.iload 5, 2) := dk_21 5 (dk_at dksX3_appendNote_2 15 rfl rfl)
theorem dX3_appendNote_64 : decode cX3_appendNote 64 = .ok (.iastore, 1) := dk_79 (dk_at dksX3_appendNote_2 17 rfl rfl)
theorem dX3_appendNote_65 : decode cX3_appendNote 65 = .ok (.aload_n 0, 1) := dk_42 (dk_at dksX3_appendNote_2 18 rfl rfl)
theorem dX3_appendNote_66 : decode cX3_appendNote 66 = .ok (.getfield 7, 3) := dk_180 0 7 (dk_at dksX3_appendNote_2 19 rfl rfl)
theorem dX3_appendNote_69 : decode cX3_appendNote 69 = .ok (.iload 6, 2) := dk_21 6 (dk_at dksX3_appendNote_2 22 rfl rfl)
theorem dX3_appendNote_71 : decode cX3_appendNote 71 = .ok (.iconst 5, 1) := dk_8 (dk_at dksX3_appendNote_3 0 rfl rfl)
theorem dX3_appendNote_72 : decode cX3_appendNote 72 = .ok (.iadd, 1) := dk_96 (dk_at dksX3_appendNote_3 1 rfl rfl)
theorem dX3_appendNote_73 : decode cX3_appendNote 73 = .ok (.iconst 0, 1) := dk_3 (dk_at dksX3_appendNote_3 2 rfl rfl)
theorem dX3_appendNote_74 : decode cX3_appendNote 74 = .ok (.iastore, 1) := dk_79 (dk_at dksX3_appendNote_3 3 rfl rfl)
theorem dX3_appendNote_75 : decode cX3_appendNote 75 = .ok (.aload_n 0, 1) := dk_42 (dk_at dksX3_appendNote_3 4 rfl rfl)
theorem dX3_appendNote_76 : decode cX3_appendNote 76 = .ok (.getfield 7, 3) := dk_180 0 7 (dk_at dksX3_appendNote_3 5 rfl rfl)
theorem dX3_appendNote_79 : decode cX3_appendNote 79 = .ok (.iconst 2, 1) := dk_5 (dk_at dksX3_appendNote_3 8 rfl rfl)
theorem dX3_appendNote_80 : decode cX3_appendNote 80 = .ok (.dup2, 1) := dk_92 (dk_at dksX3_appendNote_3 9 rfl rfl)
theorem dX3_appendNote_81 : decode cX3_appendNote 81 = .ok (.iaload, 1) := dk_46 (dk_at dksX3_appendNote_3 10 rfl rfl)
theorem dX3_appendNote_82 : decode cX3_appendNote 82 = .ok (.iconst 1, 1) := dk_4 (dk_at dksX3_appendNote_3 11 rfl rfl)
theorem dX3_appendNote_83 : decode cX3_appendNote 83 = .ok (.iadd, 1) := dk_96 (dk_at dksX3_appendNote_3 12 rfl rfl)
theorem dX3_appendNote_84 : decode cX3_appendNote 84 = .ok (.iastore, 1) := dk_79 (dk_at dksX3_appendNote_3 13 rfl rfl)
theorem dX3_appendNote_85 : decode cX3_appendNote 85 = .ok (.aload_n 0, 1) := dk_42 (dk_at dksX3_appendNote_3 14 rfl rfl)
theorem dX3_appendNote_86 : decode cX3_appendNote 86 = .ok (.invokevirtual 126, 3) := dk_182 0 126 (dk_at dksX3_appendNote_3 15 rfl rfl)
theorem dX3_appendNote_89 : decode cX3_appendNote 89 = .ok (.iconst 1, 1) := dk_4 (dk_at dksX3_appendNote_3 18 rfl rfl)
theorem dX3_appendNote_90 : decode cX3_appendNote 90 = .ok (.isub, 1) := dk_100 (dk_at dksX3_appendNote_3 19 rfl rfl)
theorem dX3_appendNote_91 : decode cX3_appendNote 91 = .ok (.ireturn, 1) := dk_172 (dk_at dksX3_appendNote_3 20 rfl rfl)
abbrev cX3_say : ByteArray := prog_16_method_54_code
def yX3_say : MethodName := ⟨RX3, "say", "(IJ)V"⟩
def dkwX3_say_1 : List UInt8 := [180, 0, 7, 17, 1, 118, 16, 6, 27, 104, 96, 8, 96, 92, 46, 4, 96, 79, 177]
abbrev dktX3_say_1 : List UInt8 := dkwX3_say_1 ++ []
def dkwX3_say_0 : List UInt8 := [42, 180, 0, 19, 17, 1, 110, 16, 6, 27, 104, 96, 42, 27, 8, 182, 0, 205, 96, 32, 80, 42]
abbrev dktX3_say_0 : List UInt8 := dkwX3_say_0 ++ dktX3_say_1
theorem dksX3_say_0 : cX3_say.data.toList.drop 0 = dktX3_say_0 := by decide +kernel
theorem dksX3_say_1 : cX3_say.data.toList.drop 22 = dktX3_say_1 := dk_seg dksX3_say_0 22 rfl rfl
theorem dX3_say_0 : decode cX3_say 0 = .ok (.aload_n 0, 1) := dk_42 (dk_at dksX3_say_0 0 rfl rfl)
theorem dX3_say_1 : decode cX3_say 1 = .ok (.getfield 19, 3) := dk_180 0 19 (dk_at dksX3_say_0 1 rfl rfl)
theorem dX3_say_4 : decode cX3_say 4 = .ok (.sipush 366, 3) := dk_17 1 110 (dk_at dksX3_say_0 4 rfl rfl)
theorem dX3_say_7 : decode cX3_say 7 = .ok (.bipush 6, 2) := dk_16 6 (dk_at dksX3_say_0 7 rfl rfl)
theorem dX3_say_9 : decode cX3_say 9 = .ok (.iload_n 1, 1) := dk_27 (dk_at dksX3_say_0 9 rfl rfl)
theorem dX3_say_10 : decode cX3_say 10 = .ok (.imul, 1) := dk_104 (dk_at dksX3_say_0 10 rfl rfl)
theorem dX3_say_11 : decode cX3_say 11 = .ok (.iadd, 1) := dk_96 (dk_at dksX3_say_0 11 rfl rfl)
theorem dX3_say_12 : decode cX3_say 12 = .ok (.aload_n 0, 1) := dk_42 (dk_at dksX3_say_0 12 rfl rfl)
theorem dX3_say_13 : decode cX3_say 13 = .ok (.iload_n 1, 1) := dk_27 (dk_at dksX3_say_0 13 rfl rfl)
theorem dX3_say_14 : decode cX3_say 14 = .ok (.iconst 5, 1) := dk_8 (dk_at dksX3_say_0 14 rfl rfl)
theorem dX3_say_15 : decode cX3_say 15 = .ok (.invokevirtual 205, 3) := dk_182 0 205 (dk_at dksX3_say_0 15 rfl rfl)
theorem dX3_say_18 : decode cX3_say 18 = .ok (.iadd, 1) := dk_96 (dk_at dksX3_say_0 18 rfl rfl)
theorem dX3_say_19 : decode cX3_say 19 = .ok (.lload_n 2, 1) := dk_32 (dk_at dksX3_say_0 19 rfl rfl)
theorem dX3_say_20 : decode cX3_say 20 = .ok (.lastore, 1) := dk_80 (dk_at dksX3_say_0 20 rfl rfl)
theorem dX3_say_21 : decode cX3_say 21 = .ok (.aload_n 0, 1) := dk_42 (dk_at dksX3_say_0 21 rfl rfl)
theorem dX3_say_22 : decode cX3_say 22 = .ok (.getfield 7, 3) := dk_180 0 7 (dk_at dksX3_say_1 0 rfl rfl)
theorem dX3_say_25 : decode cX3_say 25 = .ok (.sipush 374, 3) := dk_17 1 118 (dk_at dksX3_say_1 3 rfl rfl)
theorem dX3_say_28 : decode cX3_say 28 = .ok (.bipush 6, 2) := dk_16 6 (dk_at dksX3_say_1 6 rfl rfl)
theorem dX3_say_30 : decode cX3_say 30 = .ok (.iload_n 1, 1) := dk_27 (dk_at dksX3_say_1 8 rfl rfl)
theorem dX3_say_31 : decode cX3_say 31 = .ok (.imul, 1) := dk_104 (dk_at dksX3_say_1 9 rfl rfl)
theorem dX3_say_32 : decode cX3_say 32 = .ok (.iadd, 1) := dk_96 (dk_at dksX3_say_1 10 rfl rfl)
theorem dX3_say_33 : decode cX3_say 33 = .ok (.iconst 5, 1) := dk_8 (dk_at dksX3_say_1 11 rfl rfl)
theorem dX3_say_34 : decode cX3_say 34 = .ok (.iadd, 1) := dk_96 (dk_at dksX3_say_1 12 rfl rfl)
theorem dX3_say_35 : decode cX3_say 35 = .ok (.dup2, 1) := dk_92 (dk_at dksX3_say_1 13 rfl rfl)
theorem dX3_say_36 : decode cX3_say 36 = .ok (.iaload, 1) := dk_46 (dk_at dksX3_say_1 14 rfl rfl)
theorem dX3_say_37 : decode cX3_say 37 = .ok (.iconst 1, 1) := dk_4 (dk_at dksX3_say_1 15 rfl rfl)
theorem dX3_say_38 : decode cX3_say 38 = .ok (.iadd, 1) := dk_96 (dk_at dksX3_say_1 16 rfl rfl)
theorem dX3_say_39 : decode cX3_say 39 = .ok (.iastore, 1) := dk_79 (dk_at dksX3_say_1 17 rfl rfl)
theorem dX3_say_40 : decode cX3_say 40 = .ok (.return_, 1) := dk_177 (dk_at dksX3_say_1 18 rfl rfl)
abbrev cX3_note : ByteArray := prog_16_method_56_code
def yX3_note : MethodName := ⟨RX3, "note", "(II)I"⟩
def dkwX3_note_1 : List UInt8 := [184, 0, 111, 153, 0, 12, 42, 27, 28, 182, 0, 205, 167, 0, 8, 42, 5, 182, 0, 141, 172]
abbrev dktX3_note_1 : List UInt8 := dkwX3_note_1 ++ []
def dkwX3_note_0 : List UInt8 := [42, 3, 181, 0, 100, 42, 27, 182, 0, 240, 154, 0, 9, 42, 4, 182, 0, 141, 172, 28, 3, 8]
abbrev dktX3_note_0 : List UInt8 := dkwX3_note_0 ++ dktX3_note_1
theorem dksX3_note_0 : cX3_note.data.toList.drop 0 = dktX3_note_0 := by decide +kernel
theorem dksX3_note_1 : cX3_note.data.toList.drop 22 = dktX3_note_1 := dk_seg dksX3_note_0 22 rfl rfl
theorem dX3_note_0 : decode cX3_note 0 = .ok (.aload_n 0, 1) := dk_42 (dk_at dksX3_note_0 0 rfl rfl)
theorem dX3_note_1 : decode cX3_note 1 = .ok (.iconst 0, 1) := dk_3 (dk_at dksX3_note_0 1 rfl rfl)
theorem dX3_note_2 : decode cX3_note 2 = .ok (.putfield 100, 3) := dk_181 0 100 (dk_at dksX3_note_0 2 rfl rfl)
theorem dX3_note_5 : decode cX3_note 5 = .ok (.aload_n 0, 1) := dk_42 (dk_at dksX3_note_0 5 rfl rfl)
theorem dX3_note_6 : decode cX3_note 6 = .ok (.iload_n 1, 1) := dk_27 (dk_at dksX3_note_0 6 rfl rfl)
theorem dX3_note_7 : decode cX3_note 7 = .ok (.invokevirtual 240, 3) := dk_182 0 240 (dk_at dksX3_note_0 7 rfl rfl)
theorem dX3_note_10 : decode cX3_note 10 = .ok (.ifCond .ne 9, 3) := dk_154 0 9 (dk_at dksX3_note_0 10 rfl rfl)
theorem dX3_note_13 : decode cX3_note 13 = .ok (.aload_n 0, 1) := dk_42 (dk_at dksX3_note_0 13 rfl rfl)
theorem dX3_note_14 : decode cX3_note 14 = .ok (.iconst 1, 1) := dk_4 (dk_at dksX3_note_0 14 rfl rfl)
theorem dX3_note_15 : decode cX3_note 15 = .ok (.invokevirtual 141, 3) := dk_182 0 141 (dk_at dksX3_note_0 15 rfl rfl)
theorem dX3_note_18 : decode cX3_note 18 = .ok (.ireturn, 1) := dk_172 (dk_at dksX3_note_0 18 rfl rfl)
theorem dX3_note_19 : decode cX3_note 19 = .ok (.iload_n 2, 1) := dk_28 (dk_at dksX3_note_0 19 rfl rfl)
theorem dX3_note_20 : decode cX3_note 20 = .ok (.iconst 0, 1) := dk_3 (dk_at dksX3_note_0 20 rfl rfl)
theorem dX3_note_21 : decode cX3_note 21 = .ok (.iconst 5, 1) := dk_8 (dk_at dksX3_note_0 21 rfl rfl)
theorem dX3_note_22 : decode cX3_note 22 = .ok (.invokestatic 111, 3) := dk_184 0 111 (dk_at dksX3_note_1 0 rfl rfl)
theorem dX3_note_25 : decode cX3_note 25 = .ok (.ifCond .eq 12, 3) := dk_153 0 12 (dk_at dksX3_note_1 3 rfl rfl)
theorem dX3_note_28 : decode cX3_note 28 = .ok (.aload_n 0, 1) := dk_42 (dk_at dksX3_note_1 6 rfl rfl)
theorem dX3_note_29 : decode cX3_note 29 = .ok (.iload_n 1, 1) := dk_27 (dk_at dksX3_note_1 7 rfl rfl)
theorem dX3_note_30 : decode cX3_note 30 = .ok (.iload_n 2, 1) := dk_28 (dk_at dksX3_note_1 8 rfl rfl)
theorem dX3_note_31 : decode cX3_note 31 = .ok (.invokevirtual 205, 3) := dk_182 0 205 (dk_at dksX3_note_1 9 rfl rfl)
theorem dX3_note_34 : decode cX3_note 34 = .ok (.goto 8, 3) := dk_167 0 8 (dk_at dksX3_note_1 12 rfl rfl)
theorem dX3_note_37 : decode cX3_note 37 = .ok (.aload_n 0, 1) := dk_42 (dk_at dksX3_note_1 15 rfl rfl)
theorem dX3_note_38 : decode cX3_note 38 = .ok (.iconst 2, 1) := dk_5 (dk_at dksX3_note_1 16 rfl rfl)
theorem dX3_note_39 : decode cX3_note 39 = .ok (.invokevirtual 141, 3) := dk_182 0 141 (dk_at dksX3_note_1 17 rfl rfl)
theorem dX3_note_42 : decode cX3_note 42 = .ok (.ireturn, 1) := dk_172 (dk_at dksX3_note_1 20 rfl rfl)
abbrev cX3_isNote : ByteArray := prog_16_method_17_code
def yX3_isNote : MethodName := ⟨RX3, "isNote", "(I)Z"⟩
def dkwX3_isNote_0 : List UInt8 := [27, 3, 42, 182, 0, 126, 4, 100, 184, 0, 111, 172]
abbrev dktX3_isNote_0 : List UInt8 := dkwX3_isNote_0 ++ []
theorem dksX3_isNote_0 : cX3_isNote.data.toList.drop 0 = dktX3_isNote_0 := by decide +kernel
theorem dX3_isNote_0 : decode cX3_isNote 0 = .ok (.iload_n 1, 1) := dk_27 (dk_at dksX3_isNote_0 0 rfl rfl)
theorem dX3_isNote_1 : decode cX3_isNote 1 = .ok (.iconst 0, 1) := dk_3 (dk_at dksX3_isNote_0 1 rfl rfl)
theorem dX3_isNote_2 : decode cX3_isNote 2 = .ok (.aload_n 0, 1) := dk_42 (dk_at dksX3_isNote_0 2 rfl rfl)
theorem dX3_isNote_3 : decode cX3_isNote 3 = .ok (.invokevirtual 126, 3) := dk_182 0 126 (dk_at dksX3_isNote_0 3 rfl rfl)
theorem dX3_isNote_6 : decode cX3_isNote 6 = .ok (.iconst 1, 1) := dk_4 (dk_at dksX3_isNote_0 6 rfl rfl)
theorem dX3_isNote_7 : decode cX3_isNote 7 = .ok (.isub, 1) := dk_100 (dk_at dksX3_isNote_0 7 rfl rfl)
theorem dX3_isNote_8 : decode cX3_isNote 8 = .ok (.invokestatic 111, 3) := dk_184 0 111 (dk_at dksX3_isNote_0 8 rfl rfl)
theorem dX3_isNote_11 : decode cX3_isNote 11 = .ok (.ireturn, 1) := dk_172 (dk_at dksX3_isNote_0 11 rfl rfl)
abbrev cX3_removeNote : ByteArray := prog_16_method_57_code
def yX3_removeNote : MethodName := ⟨RX3, "removeNote", "()I"⟩
def dkwX3_removeNote_1 : List UInt8 := [46, 4, 100, 79, 42, 182, 0, 126, 172]
abbrev dktX3_removeNote_1 : List UInt8 := dkwX3_removeNote_1 ++ []
def dkwX3_removeNote_0 : List UInt8 := [42, 3, 181, 0, 100, 42, 182, 0, 126, 154, 0, 9, 42, 4, 182, 0, 141, 172, 42, 180, 0, 7, 5, 92]
abbrev dktX3_removeNote_0 : List UInt8 := dkwX3_removeNote_0 ++ dktX3_removeNote_1
theorem dksX3_removeNote_0 : cX3_removeNote.data.toList.drop 0 = dktX3_removeNote_0 := by decide +kernel
theorem dksX3_removeNote_1 : cX3_removeNote.data.toList.drop 24 = dktX3_removeNote_1 := dk_seg dksX3_removeNote_0 24 rfl rfl
theorem dX3_removeNote_0 : decode cX3_removeNote 0 = .ok (.aload_n 0, 1) := dk_42 (dk_at dksX3_removeNote_0 0 rfl rfl)
theorem dX3_removeNote_1 : decode cX3_removeNote 1 = .ok (.iconst 0, 1) := dk_3 (dk_at dksX3_removeNote_0 1 rfl rfl)
theorem dX3_removeNote_2 : decode cX3_removeNote 2 = .ok (.putfield 100, 3) := dk_181 0 100 (dk_at dksX3_removeNote_0 2 rfl rfl)
theorem dX3_removeNote_5 : decode cX3_removeNote 5 = .ok (.aload_n 0, 1) := dk_42 (dk_at dksX3_removeNote_0 5 rfl rfl)
theorem dX3_removeNote_6 : decode cX3_removeNote 6 = .ok (.invokevirtual 126, 3) := dk_182 0 126 (dk_at dksX3_removeNote_0 6 rfl rfl)
theorem dX3_removeNote_9 : decode cX3_removeNote 9 = .ok (.ifCond .ne 9, 3) := dk_154 0 9 (dk_at dksX3_removeNote_0 9 rfl rfl)
theorem dX3_removeNote_12 : decode cX3_removeNote 12 = .ok (.aload_n 0, 1) := dk_42 (dk_at dksX3_removeNote_0 12 rfl rfl)
theorem dX3_removeNote_13 : decode cX3_removeNote 13 = .ok (.iconst 1, 1) := dk_4 (dk_at dksX3_removeNote_0 13 rfl rfl)
theorem dX3_removeNote_14 : decode cX3_removeNote 14 = .ok (.invokevirtual 141, 3) := dk_182 0 141 (dk_at dksX3_removeNote_0 14 rfl rfl)
theorem dX3_removeNote_17 : decode cX3_removeNote 17 = .ok (.ireturn, 1) := dk_172 (dk_at dksX3_removeNote_0 17 rfl rfl)
theorem dX3_removeNote_18 : decode cX3_removeNote 18 = .ok (.aload_n 0, 1) := dk_42 (dk_at dksX3_removeNote_0 18 rfl rfl)
theorem dX3_removeNote_19 : decode cX3_removeNote 19 = .ok (.getfield 7, 3) := dk_180 0 7 (dk_at dksX3_removeNote_0 19 rfl rfl)
theorem dX3_removeNote_22 : decode cX3_removeNote 22 = .ok (.iconst 2, 1) := dk_5 (dk_at dksX3_removeNote_0 22 rfl rfl)
theorem dX3_removeNote_23 : decode cX3_removeNote 23 = .ok (.dup2, 1) := dk_92 (dk_at dksX3_removeNote_0 23 rfl rfl)
theorem dX3_removeNote_24 : decode cX3_removeNote 24 = .ok (.iaload, 1) := dk_46 (dk_at dksX3_removeNote_1 0 rfl rfl)
theorem dX3_removeNote_25 : decode cX3_removeNote 25 = .ok (.iconst 1, 1) := dk_4 (dk_at dksX3_removeNote_1 1 rfl rfl)
theorem dX3_removeNote_26 : decode cX3_removeNote 26 = .ok (.isub, 1) := dk_100 (dk_at dksX3_removeNote_1 2 rfl rfl)
theorem dX3_removeNote_27 : decode cX3_removeNote 27 = .ok (.iastore, 1) := dk_79 (dk_at dksX3_removeNote_1 3 rfl rfl)
theorem dX3_removeNote_28 : decode cX3_removeNote 28 = .ok (.aload_n 0, 1) := dk_42 (dk_at dksX3_removeNote_1 4 rfl rfl)
theorem dX3_removeNote_29 : decode cX3_removeNote 29 = .ok (.invokevirtual 126, 3) := dk_182 0 126 (dk_at dksX3_removeNote_1 5 rfl rfl)
theorem dX3_removeNote_32 : decode cX3_removeNote 32 = .ok (.ireturn, 1) := dk_172 (dk_at dksX3_removeNote_1 8 rfl rfl)
abbrev cX3_partner : ByteArray := prog_16_method_61_code
def yX3_partner : MethodName := ⟨RX3, "partner", "(II)I"⟩
def dkwX3_partner_1 : List UInt8 := [182, 0, 252, 42, 180, 0, 51, 28, 46, 172]
abbrev dktX3_partner_1 : List UInt8 := dkwX3_partner_1 ++ []
def dkwX3_partner_0 : List UInt8 := [42, 3, 181, 0, 100, 42, 27, 28, 182, 0, 198, 154, 0, 9, 42, 4, 182, 0, 141, 172, 42, 27]
abbrev dktX3_partner_0 : List UInt8 := dkwX3_partner_0 ++ dktX3_partner_1
theorem dksX3_partner_0 : cX3_partner.data.toList.drop 0 = dktX3_partner_0 := by decide +kernel
theorem dksX3_partner_1 : cX3_partner.data.toList.drop 22 = dktX3_partner_1 := dk_seg dksX3_partner_0 22 rfl rfl
theorem dX3_partner_0 : decode cX3_partner 0 = .ok (.aload_n 0, 1) := dk_42 (dk_at dksX3_partner_0 0 rfl rfl)
theorem dX3_partner_1 : decode cX3_partner 1 = .ok (.iconst 0, 1) := dk_3 (dk_at dksX3_partner_0 1 rfl rfl)
theorem dX3_partner_2 : decode cX3_partner 2 = .ok (.putfield 100, 3) := dk_181 0 100 (dk_at dksX3_partner_0 2 rfl rfl)
theorem dX3_partner_5 : decode cX3_partner 5 = .ok (.aload_n 0, 1) := dk_42 (dk_at dksX3_partner_0 5 rfl rfl)
theorem dX3_partner_6 : decode cX3_partner 6 = .ok (.iload_n 1, 1) := dk_27 (dk_at dksX3_partner_0 6 rfl rfl)
theorem dX3_partner_7 : decode cX3_partner 7 = .ok (.iload_n 2, 1) := dk_28 (dk_at dksX3_partner_0 7 rfl rfl)
theorem dX3_partner_8 : decode cX3_partner 8 = .ok (.invokevirtual 198, 3) := dk_182 0 198 (dk_at dksX3_partner_0 8 rfl rfl)
theorem dX3_partner_11 : decode cX3_partner 11 = .ok (.ifCond .ne 9, 3) := dk_154 0 9 (dk_at dksX3_partner_0 11 rfl rfl)
theorem dX3_partner_14 : decode cX3_partner 14 = .ok (.aload_n 0, 1) := dk_42 (dk_at dksX3_partner_0 14 rfl rfl)
theorem dX3_partner_15 : decode cX3_partner 15 = .ok (.iconst 1, 1) := dk_4 (dk_at dksX3_partner_0 15 rfl rfl)
theorem dX3_partner_16 : decode cX3_partner 16 = .ok (.invokevirtual 141, 3) := dk_182 0 141 (dk_at dksX3_partner_0 16 rfl rfl)
theorem dX3_partner_19 : decode cX3_partner 19 = .ok (.ireturn, 1) := dk_172 (dk_at dksX3_partner_0 19 rfl rfl)
theorem dX3_partner_20 : decode cX3_partner 20 = .ok (.aload_n 0, 1) := dk_42 (dk_at dksX3_partner_0 20 rfl rfl)
theorem dX3_partner_21 : decode cX3_partner 21 = .ok (.iload_n 1, 1) := dk_27 (dk_at dksX3_partner_0 21 rfl rfl)
theorem dX3_partner_22 : decode cX3_partner 22 = .ok (.invokevirtual 252, 3) := dk_182 0 252 (dk_at dksX3_partner_1 0 rfl rfl)
theorem dX3_partner_25 : decode cX3_partner 25 = .ok (.aload_n 0, 1) := dk_42 (dk_at dksX3_partner_1 3 rfl rfl)
theorem dX3_partner_26 : decode cX3_partner 26 = .ok (.getfield 51, 3) := dk_180 0 51 (dk_at dksX3_partner_1 4 rfl rfl)
theorem dX3_partner_29 : decode cX3_partner 29 = .ok (.iload_n 2, 1) := dk_28 (dk_at dksX3_partner_1 7 rfl rfl)
theorem dX3_partner_30 : decode cX3_partner 30 = .ok (.iaload, 1) := dk_46 (dk_at dksX3_partner_1 8 rfl rfl)
theorem dX3_partner_31 : decode cX3_partner 31 = .ok (.ireturn, 1) := dk_172 (dk_at dksX3_partner_1 9 rfl rfl)
abbrev cX3_partners : ByteArray := prog_16_method_62_code
def yX3_partners : MethodName := ⟨RX3, "partners", "(I)I"⟩
def dkwX3_partners_2 : List UInt8 := [4, 167, 0, 4, 3, 96, 61, 132, 3, 1, 167, 255, 226, 28, 172]
abbrev dktX3_partners_2 : List UInt8 := dkwX3_partners_2 ++ []
def dkwX3_partners_1 : List UInt8 := [3, 61, 3, 62, 29, 42, 27, 182, 0, 119, 162, 0, 27, 28, 42, 180, 0, 51, 29, 46, 2, 159, 0, 7]
abbrev dktX3_partners_1 : List UInt8 := dkwX3_partners_1 ++ dktX3_partners_2
def dkwX3_partners_0 : List UInt8 := [42, 3, 181, 0, 100, 42, 27, 182, 0, 115, 154, 0, 9, 42, 4, 182, 0, 141, 172, 42, 27, 182, 0, 252]
abbrev dktX3_partners_0 : List UInt8 := dkwX3_partners_0 ++ dktX3_partners_1
theorem dksX3_partners_0 : cX3_partners.data.toList.drop 0 = dktX3_partners_0 := by decide +kernel
theorem dksX3_partners_1 : cX3_partners.data.toList.drop 24 = dktX3_partners_1 := dk_seg dksX3_partners_0 24 rfl rfl
theorem dksX3_partners_2 : cX3_partners.data.toList.drop 48 = dktX3_partners_2 := dk_seg dksX3_partners_1 24 rfl rfl
theorem dX3_partners_0 : decode cX3_partners 0 = .ok (.aload_n 0, 1) := dk_42 (dk_at dksX3_partners_0 0 rfl rfl)
theorem dX3_partners_1 : decode cX3_partners 1 = .ok (.iconst 0, 1) := dk_3 (dk_at dksX3_partners_0 1 rfl rfl)
theorem dX3_partners_2 : decode cX3_partners 2 = .ok (.putfield 100, 3) := dk_181 0 100 (dk_at dksX3_partners_0 2 rfl rfl)
theorem dX3_partners_5 : decode cX3_partners 5 = .ok (.aload_n 0, 1) := dk_42 (dk_at dksX3_partners_0 5 rfl rfl)
theorem dX3_partners_6 : decode cX3_partners 6 = .ok (.iload_n 1, 1) := dk_27 (dk_at dksX3_partners_0 6 rfl rfl)
theorem dX3_partners_7 : decode cX3_partners 7 = .ok (.invokevirtual 115, 3) := dk_182 0 115 (dk_at dksX3_partners_0 7 rfl rfl)
theorem dX3_partners_10 : decode cX3_partners 10 = .ok (.ifCond .ne 9, 3) := dk_154 0 9 (dk_at dksX3_partners_0 10 rfl rfl)
theorem dX3_partners_13 : decode cX3_partners 13 = .ok (.aload_n 0, 1) := dk_42 (dk_at dksX3_partners_0 13 rfl rfl)
theorem dX3_partners_14 : decode cX3_partners 14 = .ok (.iconst 1, 1) := dk_4 (dk_at dksX3_partners_0 14 rfl rfl)
theorem dX3_partners_15 : decode cX3_partners 15 = .ok (.invokevirtual 141, 3) := dk_182 0 141 (dk_at dksX3_partners_0 15 rfl rfl)
theorem dX3_partners_18 : decode cX3_partners 18 = .ok (.ireturn, 1) := dk_172 (dk_at dksX3_partners_0 18 rfl rfl)
theorem dX3_partners_19 : decode cX3_partners 19 = .ok (.aload_n 0, 1) := dk_42 (dk_at dksX3_partners_0 19 rfl rfl)
theorem dX3_partners_20 : decode cX3_partners 20 = .ok (.iload_n 1, 1) := dk_27 (dk_at dksX3_partners_0 20 rfl rfl)
theorem dX3_partners_21 : decode cX3_partners 21 = .ok (.invokevirtual 252, 3) := dk_182 0 252 (dk_at dksX3_partners_0 21 rfl rfl)
theorem dX3_partners_24 : decode cX3_partners 24 = .ok (.iconst 0, 1) := dk_3 (dk_at dksX3_partners_1 0 rfl rfl)
theorem dX3_partners_25 : decode cX3_partners 25 = .ok (.istore_n 2, 1) := dk_61 (dk_at dksX3_partners_1 1 rfl rfl)
theorem dX3_partners_26 : decode cX3_partners 26 = .ok (.iconst 0, 1) := dk_3 (dk_at dksX3_partners_1 2 rfl rfl)
theorem dX3_partners_27 : decode cX3_partners 27 = .ok (.istore_n 3, 1) := dk_62 (dk_at dksX3_partners_1 3 rfl rfl)
theorem dX3_partners_28 : decode cX3_partners 28 = .ok (.iload_n 3, 1) := dk_29 (dk_at dksX3_partners_1 4 rfl rfl)
theorem dX3_partners_29 : decode cX3_partners 29 = .ok (.aload_n 0, 1) := dk_42 (dk_at dksX3_partners_1 5 rfl rfl)
theorem dX3_partners_30 : decode cX3_partners 30 = .ok (.iload_n 1, 1) := dk_27 (dk_at dksX3_partners_1 6 rfl rfl)
theorem dX3_partners_31 : decode cX3_partners 31 = .ok (.invokevirtual 119, 3) := dk_182 0 119 (dk_at dksX3_partners_1 7 rfl rfl)
theorem dX3_partners_34 : decode cX3_partners 34 = .ok (.if_icmp .ge 27, 3) := dk_162 0 27 (dk_at dksX3_partners_1 10 rfl rfl)
theorem dX3_partners_37 : decode cX3_partners 37 = .ok (.iload_n 2, 1) := dk_28 (dk_at dksX3_partners_1 13 rfl rfl)
theorem dX3_partners_38 : decode cX3_partners 38 = .ok (.aload_n 0, 1) := dk_42 (dk_at dksX3_partners_1 14 rfl rfl)
theorem dX3_partners_39 : decode cX3_partners 39 = .ok (.getfield 51, 3) := dk_180 0 51 (dk_at dksX3_partners_1 15 rfl rfl)
theorem dX3_partners_42 : decode cX3_partners 42 = .ok (.iload_n 3, 1) := dk_29 (dk_at dksX3_partners_1 18 rfl rfl)
theorem dX3_partners_43 : decode cX3_partners 43 = .ok (.iaload, 1) := dk_46 (dk_at dksX3_partners_1 19 rfl rfl)
theorem dX3_partners_44 : decode cX3_partners 44 = .ok (.iconst (-1), 1) := dk_2 (dk_at dksX3_partners_1 20 rfl rfl)
theorem dX3_partners_45 : decode cX3_partners 45 = .ok (.if_icmp .eq 7, 3) := dk_159 0 7 (dk_at dksX3_partners_1 21 rfl rfl)
theorem dX3_partners_48 : decode cX3_partners 48 = .ok (.iconst 1, 1) := dk_4 (dk_at dksX3_partners_2 0 rfl rfl)
theorem dX3_partners_49 : decode cX3_partners 49 = .ok (.goto 4, 3) := dk_167 0 4 (dk_at dksX3_partners_2 1 rfl rfl)
theorem dX3_partners_52 : decode cX3_partners 52 = .ok (.iconst 0, 1) := dk_3 (dk_at dksX3_partners_2 4 rfl rfl)
theorem dX3_partners_53 : decode cX3_partners 53 = .ok (.iadd, 1) := dk_96 (dk_at dksX3_partners_2 5 rfl rfl)
theorem dX3_partners_54 : decode cX3_partners 54 = .ok (.istore_n 2, 1) := dk_61 (dk_at dksX3_partners_2 6 rfl rfl)
theorem dX3_partners_55 : decode cX3_partners 55 = .ok (.iinc 3 1, 3) := dk_132 3 1 (dk_at dksX3_partners_2 7 rfl rfl)
theorem dX3_partners_58 : decode cX3_partners 58 = .ok (.goto (-30), 3) := dk_167 255 226 (dk_at dksX3_partners_2 10 rfl rfl)
theorem dX3_partners_61 : decode cX3_partners 61 = .ok (.iload_n 2, 1) := dk_28 (dk_at dksX3_partners_2 13 rfl rfl)
theorem dX3_partners_62 : decode cX3_partners 62 = .ok (.ireturn, 1) := dk_172 (dk_at dksX3_partners_2 14 rfl rfl)
abbrev cX3_anchor : ByteArray := prog_16_method_66_code
def yX3_anchor : MethodName := ⟨RX3, "anchor", "(II)I"⟩
def dkwX3_anchor_3 : List UInt8 := [180, 0, 63, 27, 46, 172, 42, 5, 182, 0, 141, 172]
abbrev dktX3_anchor_3 : List UInt8 := dkwX3_anchor_3 ++ []
def dkwX3_anchor_2 : List UInt8 := [42, 180, 0, 54, 27, 46, 172, 42, 180, 0, 57, 27, 46, 172, 42, 180, 0, 60, 27, 46, 172, 42]
abbrev dktX3_anchor_2 : List UInt8 := dkwX3_anchor_2 ++ dktX3_anchor_3
def dkwX3_anchor_1 : List UInt8 := [170, 0, 0, 0, 0, 0, 0, 60, 0, 0, 0, 0, 0, 0, 0, 3, 0, 0, 0, 32, 0, 0, 0, 39, 0, 0, 0, 46, 0, 0, 0, 53]
abbrev dktX3_anchor_1 : List UInt8 := dkwX3_anchor_1 ++ dktX3_anchor_2
def dkwX3_anchor_0 : List UInt8 := [42, 3, 181, 0, 100, 42, 27, 182, 0, 240, 154, 0, 9, 42, 4, 182, 0, 141, 172, 42, 182, 1, 6, 28]
abbrev dktX3_anchor_0 : List UInt8 := dkwX3_anchor_0 ++ dktX3_anchor_1
theorem dksX3_anchor_0 : cX3_anchor.data.toList.drop 0 = dktX3_anchor_0 := by decide +kernel
theorem dksX3_anchor_1 : cX3_anchor.data.toList.drop 24 = dktX3_anchor_1 := dk_seg dksX3_anchor_0 24 rfl rfl
theorem dksX3_anchor_2 : cX3_anchor.data.toList.drop 56 = dktX3_anchor_2 := dk_seg dksX3_anchor_1 32 rfl rfl
theorem dksX3_anchor_3 : cX3_anchor.data.toList.drop 78 = dktX3_anchor_3 := dk_seg dksX3_anchor_2 22 rfl rfl
theorem dX3_anchor_0 : decode cX3_anchor 0 = .ok (.aload_n 0, 1) := dk_42 (dk_at dksX3_anchor_0 0 rfl rfl)
theorem dX3_anchor_1 : decode cX3_anchor 1 = .ok (.iconst 0, 1) := dk_3 (dk_at dksX3_anchor_0 1 rfl rfl)
theorem dX3_anchor_2 : decode cX3_anchor 2 = .ok (.putfield 100, 3) := dk_181 0 100 (dk_at dksX3_anchor_0 2 rfl rfl)
theorem dX3_anchor_5 : decode cX3_anchor 5 = .ok (.aload_n 0, 1) := dk_42 (dk_at dksX3_anchor_0 5 rfl rfl)
theorem dX3_anchor_6 : decode cX3_anchor 6 = .ok (.iload_n 1, 1) := dk_27 (dk_at dksX3_anchor_0 6 rfl rfl)
theorem dX3_anchor_7 : decode cX3_anchor 7 = .ok (.invokevirtual 240, 3) := dk_182 0 240 (dk_at dksX3_anchor_0 7 rfl rfl)
theorem dX3_anchor_10 : decode cX3_anchor 10 = .ok (.ifCond .ne 9, 3) := dk_154 0 9 (dk_at dksX3_anchor_0 10 rfl rfl)
theorem dX3_anchor_13 : decode cX3_anchor 13 = .ok (.aload_n 0, 1) := dk_42 (dk_at dksX3_anchor_0 13 rfl rfl)
theorem dX3_anchor_14 : decode cX3_anchor 14 = .ok (.iconst 1, 1) := dk_4 (dk_at dksX3_anchor_0 14 rfl rfl)
theorem dX3_anchor_15 : decode cX3_anchor 15 = .ok (.invokevirtual 141, 3) := dk_182 0 141 (dk_at dksX3_anchor_0 15 rfl rfl)
theorem dX3_anchor_18 : decode cX3_anchor 18 = .ok (.ireturn, 1) := dk_172 (dk_at dksX3_anchor_0 18 rfl rfl)
theorem dX3_anchor_19 : decode cX3_anchor 19 = .ok (.aload_n 0, 1) := dk_42 (dk_at dksX3_anchor_0 19 rfl rfl)
theorem dX3_anchor_20 : decode cX3_anchor 20 = .ok (.invokevirtual 262, 3) := dk_182 1 6 (dk_at dksX3_anchor_0 20 rfl rfl)
theorem dX3_anchor_23 : decode cX3_anchor 23 = .ok (.iload_n 2, 1) := dk_28 (dk_at dksX3_anchor_0 23 rfl rfl)
theorem dX3_anchor_24 : decode cX3_anchor 24 = .ok (.tableswitch 60 0 3 #[32, 39, 46, 53], 32) := by decide +kernel
theorem dX3_anchor_56 : decode cX3_anchor 56 = .ok (.aload_n 0, 1) := dk_42 (dk_at dksX3_anchor_2 0 rfl rfl)
theorem dX3_anchor_57 : decode cX3_anchor 57 = .ok (.getfield 54, 3) := dk_180 0 54 (dk_at dksX3_anchor_2 1 rfl rfl)
theorem dX3_anchor_60 : decode cX3_anchor 60 = .ok (.iload_n 1, 1) := dk_27 (dk_at dksX3_anchor_2 4 rfl rfl)
theorem dX3_anchor_61 : decode cX3_anchor 61 = .ok (.iaload, 1) := dk_46 (dk_at dksX3_anchor_2 5 rfl rfl)
theorem dX3_anchor_62 : decode cX3_anchor 62 = .ok (.ireturn, 1) := dk_172 (dk_at dksX3_anchor_2 6 rfl rfl)
theorem dX3_anchor_63 : decode cX3_anchor 63 = .ok (.aload_n 0, 1) := dk_42 (dk_at dksX3_anchor_2 7 rfl rfl)
theorem dX3_anchor_64 : decode cX3_anchor 64 = .ok (.getfield 57, 3) := dk_180 0 57 (dk_at dksX3_anchor_2 8 rfl rfl)
theorem dX3_anchor_67 : decode cX3_anchor 67 = .ok (.iload_n 1, 1) := dk_27 (dk_at dksX3_anchor_2 11 rfl rfl)
theorem dX3_anchor_68 : decode cX3_anchor 68 = .ok (.iaload, 1) := dk_46 (dk_at dksX3_anchor_2 12 rfl rfl)
theorem dX3_anchor_69 : decode cX3_anchor 69 = .ok (.ireturn, 1) := dk_172 (dk_at dksX3_anchor_2 13 rfl rfl)
theorem dX3_anchor_70 : decode cX3_anchor 70 = .ok (.aload_n 0, 1) := dk_42 (dk_at dksX3_anchor_2 14 rfl rfl)
theorem dX3_anchor_71 : decode cX3_anchor 71 = .ok (.getfield 60, 3) := dk_180 0 60 (dk_at dksX3_anchor_2 15 rfl rfl)
theorem dX3_anchor_74 : decode cX3_anchor 74 = .ok (.iload_n 1, 1) := dk_27 (dk_at dksX3_anchor_2 18 rfl rfl)
theorem dX3_anchor_75 : decode cX3_anchor 75 = .ok (.iaload, 1) := dk_46 (dk_at dksX3_anchor_2 19 rfl rfl)
theorem dX3_anchor_76 : decode cX3_anchor 76 = .ok (.ireturn, 1) := dk_172 (dk_at dksX3_anchor_2 20 rfl rfl)
theorem dX3_anchor_77 : decode cX3_anchor 77 = .ok (.aload_n 0, 1) := dk_42 (dk_at dksX3_anchor_2 21 rfl rfl)
theorem dX3_anchor_78 : decode cX3_anchor 78 = .ok (.getfield 63, 3) := dk_180 0 63 (dk_at dksX3_anchor_3 0 rfl rfl)
theorem dX3_anchor_81 : decode cX3_anchor 81 = .ok (.iload_n 1, 1) := dk_27 (dk_at dksX3_anchor_3 3 rfl rfl)
theorem dX3_anchor_82 : decode cX3_anchor 82 = .ok (.iaload, 1) := dk_46 (dk_at dksX3_anchor_3 4 rfl rfl)
theorem dX3_anchor_83 : decode cX3_anchor 83 = .ok (.ireturn, 1) := dk_172 (dk_at dksX3_anchor_3 5 rfl rfl)
theorem dX3_anchor_84 : decode cX3_anchor 84 = .ok (.aload_n 0, 1) := dk_42 (dk_at dksX3_anchor_3 6 rfl rfl)
theorem dX3_anchor_85 : decode cX3_anchor 85 = .ok (.iconst 2, 1) := dk_5 (dk_at dksX3_anchor_3 7 rfl rfl)
theorem dX3_anchor_86 : decode cX3_anchor 86 = .ok (.invokevirtual 141, 3) := dk_182 0 141 (dk_at dksX3_anchor_3 8 rfl rfl)
theorem dX3_anchor_89 : decode cX3_anchor 89 = .ok (.ireturn, 1) := dk_172 (dk_at dksX3_anchor_3 11 rfl rfl)
abbrev cX3_anchors : ByteArray := prog_16_method_67_code
def yX3_anchors : MethodName := ⟨RX3, "anchors", "(I)I"⟩
def dkwX3_anchors_2 : List UInt8 := [167, 0, 4, 3, 96, 61, 132, 3, 1, 167, 255, 227, 28, 172]
abbrev dktX3_anchors_2 : List UInt8 := dkwX3_anchors_2 ++ []
def dkwX3_anchors_1 : List UInt8 := [3, 61, 3, 62, 29, 42, 182, 0, 126, 162, 0, 27, 28, 42, 180, 0, 54, 29, 46, 27, 160, 0, 7, 4]
abbrev dktX3_anchors_1 : List UInt8 := dkwX3_anchors_1 ++ dktX3_anchors_2
def dkwX3_anchors_0 : List UInt8 := [42, 3, 181, 0, 100, 27, 3, 6, 184, 0, 111, 154, 0, 9, 42, 4, 182, 0, 141, 172, 42, 182, 1, 6]
abbrev dktX3_anchors_0 : List UInt8 := dkwX3_anchors_0 ++ dktX3_anchors_1
theorem dksX3_anchors_0 : cX3_anchors.data.toList.drop 0 = dktX3_anchors_0 := by decide +kernel
theorem dksX3_anchors_1 : cX3_anchors.data.toList.drop 24 = dktX3_anchors_1 := dk_seg dksX3_anchors_0 24 rfl rfl
theorem dksX3_anchors_2 : cX3_anchors.data.toList.drop 48 = dktX3_anchors_2 := dk_seg dksX3_anchors_1 24 rfl rfl
theorem dX3_anchors_0 : decode cX3_anchors 0 = .ok (.aload_n 0, 1) := dk_42 (dk_at dksX3_anchors_0 0 rfl rfl)
theorem dX3_anchors_1 : decode cX3_anchors 1 = .ok (.iconst 0, 1) := dk_3 (dk_at dksX3_anchors_0 1 rfl rfl)
theorem dX3_anchors_2 : decode cX3_anchors 2 = .ok (.putfield 100, 3) := dk_181 0 100 (dk_at dksX3_anchors_0 2 rfl rfl)
theorem dX3_anchors_5 : decode cX3_anchors 5 = .ok (.iload_n 1, 1) := dk_27 (dk_at dksX3_anchors_0 5 rfl rfl)
theorem dX3_anchors_6 : decode cX3_anchors 6 = .ok (.iconst 0, 1) := dk_3 (dk_at dksX3_anchors_0 6 rfl rfl)
theorem dX3_anchors_7 : decode cX3_anchors 7 = .ok (.iconst 3, 1) := dk_6 (dk_at dksX3_anchors_0 7 rfl rfl)
theorem dX3_anchors_8 : decode cX3_anchors 8 = .ok (.invokestatic 111, 3) := dk_184 0 111 (dk_at dksX3_anchors_0 8 rfl rfl)
theorem dX3_anchors_11 : decode cX3_anchors 11 = .ok (.ifCond .ne 9, 3) := dk_154 0 9 (dk_at dksX3_anchors_0 11 rfl rfl)
theorem dX3_anchors_14 : decode cX3_anchors 14 = .ok (.aload_n 0, 1) := dk_42 (dk_at dksX3_anchors_0 14 rfl rfl)
theorem dX3_anchors_15 : decode cX3_anchors 15 = .ok (.iconst 1, 1) := dk_4 (dk_at dksX3_anchors_0 15 rfl rfl)
theorem dX3_anchors_16 : decode cX3_anchors 16 = .ok (.invokevirtual 141, 3) := dk_182 0 141 (dk_at dksX3_anchors_0 16 rfl rfl)
theorem dX3_anchors_19 : decode cX3_anchors 19 = .ok (.ireturn, 1) := dk_172 (dk_at dksX3_anchors_0 19 rfl rfl)
theorem dX3_anchors_20 : decode cX3_anchors 20 = .ok (.aload_n 0, 1) := dk_42 (dk_at dksX3_anchors_0 20 rfl rfl)
theorem dX3_anchors_21 : decode cX3_anchors 21 = .ok (.invokevirtual 262, 3) := dk_182 1 6 (dk_at dksX3_anchors_0 21 rfl rfl)
theorem dX3_anchors_24 : decode cX3_anchors 24 = .ok (.iconst 0, 1) := dk_3 (dk_at dksX3_anchors_1 0 rfl rfl)
theorem dX3_anchors_25 : decode cX3_anchors 25 = .ok (.istore_n 2, 1) := dk_61 (dk_at dksX3_anchors_1 1 rfl rfl)
theorem dX3_anchors_26 : decode cX3_anchors 26 = .ok (.iconst 0, 1) := dk_3 (dk_at dksX3_anchors_1 2 rfl rfl)
theorem dX3_anchors_27 : decode cX3_anchors 27 = .ok (.istore_n 3, 1) := dk_62 (dk_at dksX3_anchors_1 3 rfl rfl)
theorem dX3_anchors_28 : decode cX3_anchors 28 = .ok (.iload_n 3, 1) := dk_29 (dk_at dksX3_anchors_1 4 rfl rfl)
theorem dX3_anchors_29 : decode cX3_anchors 29 = .ok (.aload_n 0, 1) := dk_42 (dk_at dksX3_anchors_1 5 rfl rfl)
theorem dX3_anchors_30 : decode cX3_anchors 30 = .ok (.invokevirtual 126, 3) := dk_182 0 126 (dk_at dksX3_anchors_1 6 rfl rfl)
theorem dX3_anchors_33 : decode cX3_anchors 33 = .ok (.if_icmp .ge 27, 3) := dk_162 0 27 (dk_at dksX3_anchors_1 9 rfl rfl)
theorem dX3_anchors_36 : decode cX3_anchors 36 = .ok (.iload_n 2, 1) := dk_28 (dk_at dksX3_anchors_1 12 rfl rfl)
theorem dX3_anchors_37 : decode cX3_anchors 37 = .ok (.aload_n 0, 1) := dk_42 (dk_at dksX3_anchors_1 13 rfl rfl)
theorem dX3_anchors_38 : decode cX3_anchors 38 = .ok (.getfield 54, 3) := dk_180 0 54 (dk_at dksX3_anchors_1 14 rfl rfl)
theorem dX3_anchors_41 : decode cX3_anchors 41 = .ok (.iload_n 3, 1) := dk_29 (dk_at dksX3_anchors_1 17 rfl rfl)
theorem dX3_anchors_42 : decode cX3_anchors 42 = .ok (.iaload, 1) := dk_46 (dk_at dksX3_anchors_1 18 rfl rfl)
theorem dX3_anchors_43 : decode cX3_anchors 43 = .ok (.iload_n 1, 1) := dk_27 (dk_at dksX3_anchors_1 19 rfl rfl)
theorem dX3_anchors_44 : decode cX3_anchors 44 = .ok (.if_icmp .ne 7, 3) := dk_160 0 7 (dk_at dksX3_anchors_1 20 rfl rfl)
theorem dX3_anchors_47 : decode cX3_anchors 47 = .ok (.iconst 1, 1) := dk_4 (dk_at dksX3_anchors_1 23 rfl rfl)
theorem dX3_anchors_48 : decode cX3_anchors 48 = .ok (.goto 4, 3) := dk_167 0 4 (dk_at dksX3_anchors_2 0 rfl rfl)
theorem dX3_anchors_51 : decode cX3_anchors 51 = .ok (.iconst 0, 1) := dk_3 (dk_at dksX3_anchors_2 3 rfl rfl)
theorem dX3_anchors_52 : decode cX3_anchors 52 = .ok (.iadd, 1) := dk_96 (dk_at dksX3_anchors_2 4 rfl rfl)
theorem dX3_anchors_53 : decode cX3_anchors 53 = .ok (.istore_n 2, 1) := dk_61 (dk_at dksX3_anchors_2 5 rfl rfl)
theorem dX3_anchors_54 : decode cX3_anchors 54 = .ok (.iinc 3 1, 3) := dk_132 3 1 (dk_at dksX3_anchors_2 6 rfl rfl)
theorem dX3_anchors_57 : decode cX3_anchors 57 = .ok (.goto (-29), 3) := dk_167 255 227 (dk_at dksX3_anchors_2 9 rfl rfl)
theorem dX3_anchors_60 : decode cX3_anchors 60 = .ok (.iload_n 2, 1) := dk_28 (dk_at dksX3_anchors_2 12 rfl rfl)
theorem dX3_anchors_61 : decode cX3_anchors 61 = .ok (.ireturn, 1) := dk_172 (dk_at dksX3_anchors_2 13 rfl rfl)
abbrev cX3_setThreshold : ByteArray := prog_16_method_68_code
def yX3_setThreshold : MethodName := ⟨RX3, "setThreshold", "(I)I"⟩
def dkwX3_setThreshold_1 : List UInt8 := [180, 0, 7, 6, 46, 61, 42, 180, 0, 7, 6, 27, 79, 28, 172]
abbrev dktX3_setThreshold_1 : List UInt8 := dkwX3_setThreshold_1 ++ []
def dkwX3_setThreshold_0 : List UInt8 := [42, 3, 181, 0, 100, 27, 3, 16, 100, 184, 0, 111, 154, 0, 9, 42, 4, 182, 0, 141, 172, 42]
abbrev dktX3_setThreshold_0 : List UInt8 := dkwX3_setThreshold_0 ++ dktX3_setThreshold_1
theorem dksX3_setThreshold_0 : cX3_setThreshold.data.toList.drop 0 = dktX3_setThreshold_0 := by decide +kernel
theorem dksX3_setThreshold_1 : cX3_setThreshold.data.toList.drop 22 = dktX3_setThreshold_1 := dk_seg dksX3_setThreshold_0 22 rfl rfl
theorem dX3_setThreshold_0 : decode cX3_setThreshold 0 = .ok (.aload_n 0, 1) := dk_42 (dk_at dksX3_setThreshold_0 0 rfl rfl)
theorem dX3_setThreshold_1 : decode cX3_setThreshold 1 = .ok (.iconst 0, 1) := dk_3 (dk_at dksX3_setThreshold_0 1 rfl rfl)
theorem dX3_setThreshold_2 : decode cX3_setThreshold 2 = .ok (.putfield 100, 3) := dk_181 0 100 (dk_at dksX3_setThreshold_0 2 rfl rfl)
theorem dX3_setThreshold_5 : decode cX3_setThreshold 5 = .ok (.iload_n 1, 1) := dk_27 (dk_at dksX3_setThreshold_0 5 rfl rfl)
theorem dX3_setThreshold_6 : decode cX3_setThreshold 6 = .ok (.iconst 0, 1) := dk_3 (dk_at dksX3_setThreshold_0 6 rfl rfl)
theorem dX3_setThreshold_7 : decode cX3_setThreshold 7 = .ok (.bipush 100, 2) := dk_16 100 (dk_at dksX3_setThreshold_0 7 rfl rfl)
theorem dX3_setThreshold_9 : decode cX3_setThreshold 9 = .ok (.invokestatic 111, 3) := dk_184 0 111 (dk_at dksX3_setThreshold_0 9 rfl rfl)
theorem dX3_setThreshold_12 : decode cX3_setThreshold 12 = .ok (.ifCond .ne 9, 3) := dk_154 0 9 (dk_at dksX3_setThreshold_0 12 rfl rfl)
theorem dX3_setThreshold_15 : decode cX3_setThreshold 15 = .ok (.aload_n 0, 1) := dk_42 (dk_at dksX3_setThreshold_0 15 rfl rfl)
theorem dX3_setThreshold_16 : decode cX3_setThreshold 16 = .ok (.iconst 1, 1) := dk_4 (dk_at dksX3_setThreshold_0 16 rfl rfl)
theorem dX3_setThreshold_17 : decode cX3_setThreshold 17 = .ok (.invokevirtual 141, 3) := dk_182 0 141 (dk_at dksX3_setThreshold_0 17 rfl rfl)
theorem dX3_setThreshold_20 : decode cX3_setThreshold 20 = .ok (.ireturn, 1) := dk_172 (dk_at dksX3_setThreshold_0 20 rfl rfl)
theorem dX3_setThreshold_21 : decode cX3_setThreshold 21 = .ok (.aload_n 0, 1) := dk_42 (dk_at dksX3_setThreshold_0 21 rfl rfl)
theorem dX3_setThreshold_22 : decode cX3_setThreshold 22 = .ok (.getfield 7, 3) := dk_180 0 7 (dk_at dksX3_setThreshold_1 0 rfl rfl)
theorem dX3_setThreshold_25 : decode cX3_setThreshold 25 = .ok (.iconst 3, 1) := dk_6 (dk_at dksX3_setThreshold_1 3 rfl rfl)
theorem dX3_setThreshold_26 : decode cX3_setThreshold 26 = .ok (.iaload, 1) := dk_46 (dk_at dksX3_setThreshold_1 4 rfl rfl)
theorem dX3_setThreshold_27 : decode cX3_setThreshold 27 = .ok (.istore_n 2, 1) := dk_61 (dk_at dksX3_setThreshold_1 5 rfl rfl)
theorem dX3_setThreshold_28 : decode cX3_setThreshold 28 = .ok (.aload_n 0, 1) := dk_42 (dk_at dksX3_setThreshold_1 6 rfl rfl)
theorem dX3_setThreshold_29 : decode cX3_setThreshold 29 = .ok (.getfield 7, 3) := dk_180 0 7 (dk_at dksX3_setThreshold_1 7 rfl rfl)
theorem dX3_setThreshold_32 : decode cX3_setThreshold 32 = .ok (.iconst 3, 1) := dk_6 (dk_at dksX3_setThreshold_1 10 rfl rfl)
theorem dX3_setThreshold_33 : decode cX3_setThreshold 33 = .ok (.iload_n 1, 1) := dk_27 (dk_at dksX3_setThreshold_1 11 rfl rfl)
theorem dX3_setThreshold_34 : decode cX3_setThreshold 34 = .ok (.iastore, 1) := dk_79 (dk_at dksX3_setThreshold_1 12 rfl rfl)
theorem dX3_setThreshold_35 : decode cX3_setThreshold 35 = .ok (.iload_n 2, 1) := dk_28 (dk_at dksX3_setThreshold_1 13 rfl rfl)
theorem dX3_setThreshold_36 : decode cX3_setThreshold 36 = .ok (.ireturn, 1) := dk_172 (dk_at dksX3_setThreshold_1 14 rfl rfl)
abbrev cX3_areAlike : ByteArray := prog_16_method_74_code
def yX3_areAlike : MethodName := ⟨RX3, "areAlike", "(II)Z"⟩
def dkwX3_areAlike_1 : List UInt8 := [181, 0, 100, 42, 180, 0, 100, 153, 0, 5, 3, 172, 42, 182, 1, 6, 42, 27, 28, 182, 1, 26, 172]
abbrev dktX3_areAlike_1 : List UInt8 := dkwX3_areAlike_1 ++ []
def dkwX3_areAlike_0 : List UInt8 := [42, 42, 27, 182, 0, 240, 153, 0, 15, 42, 28, 182, 0, 240, 153, 0, 7, 3, 167, 0, 4, 4]
abbrev dktX3_areAlike_0 : List UInt8 := dkwX3_areAlike_0 ++ dktX3_areAlike_1
theorem dksX3_areAlike_0 : cX3_areAlike.data.toList.drop 0 = dktX3_areAlike_0 := by decide +kernel
theorem dksX3_areAlike_1 : cX3_areAlike.data.toList.drop 22 = dktX3_areAlike_1 := dk_seg dksX3_areAlike_0 22 rfl rfl
theorem dX3_areAlike_0 : decode cX3_areAlike 0 = .ok (.aload_n 0, 1) := dk_42 (dk_at dksX3_areAlike_0 0 rfl rfl)
theorem dX3_areAlike_1 : decode cX3_areAlike 1 = .ok (.aload_n 0, 1) := dk_42 (dk_at dksX3_areAlike_0 1 rfl rfl)
theorem dX3_areAlike_2 : decode cX3_areAlike 2 = .ok (.iload_n 1, 1) := dk_27 (dk_at dksX3_areAlike_0 2 rfl rfl)
theorem dX3_areAlike_3 : decode cX3_areAlike 3 = .ok (.invokevirtual 240, 3) := dk_182 0 240 (dk_at dksX3_areAlike_0 3 rfl rfl)
theorem dX3_areAlike_6 : decode cX3_areAlike 6 = .ok (.ifCond .eq 15, 3) := dk_153 0 15 (dk_at dksX3_areAlike_0 6 rfl rfl)
theorem dX3_areAlike_9 : decode cX3_areAlike 9 = .ok (.aload_n 0, 1) := dk_42 (dk_at dksX3_areAlike_0 9 rfl rfl)
theorem dX3_areAlike_10 : decode cX3_areAlike 10 = .ok (.iload_n 2, 1) := dk_28 (dk_at dksX3_areAlike_0 10 rfl rfl)
theorem dX3_areAlike_11 : decode cX3_areAlike 11 = .ok (.invokevirtual 240, 3) := dk_182 0 240 (dk_at dksX3_areAlike_0 11 rfl rfl)
theorem dX3_areAlike_14 : decode cX3_areAlike 14 = .ok (.ifCond .eq 7, 3) := dk_153 0 7 (dk_at dksX3_areAlike_0 14 rfl rfl)
theorem dX3_areAlike_17 : decode cX3_areAlike 17 = .ok (.iconst 0, 1) := dk_3 (dk_at dksX3_areAlike_0 17 rfl rfl)
theorem dX3_areAlike_18 : decode cX3_areAlike 18 = .ok (.goto 4, 3) := dk_167 0 4 (dk_at dksX3_areAlike_0 18 rfl rfl)
theorem dX3_areAlike_21 : decode cX3_areAlike 21 = .ok (.iconst 1, 1) := dk_4 (dk_at dksX3_areAlike_0 21 rfl rfl)
theorem dX3_areAlike_22 : decode cX3_areAlike 22 = .ok (.putfield 100, 3) := dk_181 0 100 (dk_at dksX3_areAlike_1 0 rfl rfl)
theorem dX3_areAlike_25 : decode cX3_areAlike 25 = .ok (.aload_n 0, 1) := dk_42 (dk_at dksX3_areAlike_1 3 rfl rfl)
theorem dX3_areAlike_26 : decode cX3_areAlike 26 = .ok (.getfield 100, 3) := dk_180 0 100 (dk_at dksX3_areAlike_1 4 rfl rfl)
theorem dX3_areAlike_29 : decode cX3_areAlike 29 = .ok (.ifCond .eq 5, 3) := dk_153 0 5 (dk_at dksX3_areAlike_1 7 rfl rfl)
theorem dX3_areAlike_32 : decode cX3_areAlike 32 = .ok (.iconst 0, 1) := dk_3 (dk_at dksX3_areAlike_1 10 rfl rfl)
theorem dX3_areAlike_33 : decode cX3_areAlike 33 = .ok (.ireturn, 1) := dk_172 (dk_at dksX3_areAlike_1 11 rfl rfl)
theorem dX3_areAlike_34 : decode cX3_areAlike 34 = .ok (.aload_n 0, 1) := dk_42 (dk_at dksX3_areAlike_1 12 rfl rfl)
theorem dX3_areAlike_35 : decode cX3_areAlike 35 = .ok (.invokevirtual 262, 3) := dk_182 1 6 (dk_at dksX3_areAlike_1 13 rfl rfl)
theorem dX3_areAlike_38 : decode cX3_areAlike 38 = .ok (.aload_n 0, 1) := dk_42 (dk_at dksX3_areAlike_1 16 rfl rfl)
theorem dX3_areAlike_39 : decode cX3_areAlike 39 = .ok (.iload_n 1, 1) := dk_27 (dk_at dksX3_areAlike_1 17 rfl rfl)
theorem dX3_areAlike_40 : decode cX3_areAlike 40 = .ok (.iload_n 2, 1) := dk_28 (dk_at dksX3_areAlike_1 18 rfl rfl)
theorem dX3_areAlike_41 : decode cX3_areAlike 41 = .ok (.invokevirtual 282, 3) := dk_182 1 26 (dk_at dksX3_areAlike_1 19 rfl rfl)
theorem dX3_areAlike_44 : decode cX3_areAlike 44 = .ok (.ireturn, 1) := dk_172 (dk_at dksX3_areAlike_1 22 rfl rfl)
abbrev cX3_groupOf : ByteArray := prog_16_method_78_code
def yX3_groupOf : MethodName := ⟨RX3, "groupOf", "(I)I"⟩
def dkwX3_groupOf_1 : List UInt8 := [180, 0, 66, 27, 46, 172]
abbrev dktX3_groupOf_1 : List UInt8 := dkwX3_groupOf_1 ++ []
def dkwX3_groupOf_0 : List UInt8 := [42, 3, 181, 0, 100, 42, 27, 182, 0, 240, 154, 0, 9, 42, 4, 182, 0, 141, 172, 42, 182, 0, 158, 42]
abbrev dktX3_groupOf_0 : List UInt8 := dkwX3_groupOf_0 ++ dktX3_groupOf_1
theorem dksX3_groupOf_0 : cX3_groupOf.data.toList.drop 0 = dktX3_groupOf_0 := by decide +kernel
theorem dksX3_groupOf_1 : cX3_groupOf.data.toList.drop 24 = dktX3_groupOf_1 := dk_seg dksX3_groupOf_0 24 rfl rfl
theorem dX3_groupOf_0 : decode cX3_groupOf 0 = .ok (.aload_n 0, 1) := dk_42 (dk_at dksX3_groupOf_0 0 rfl rfl)
theorem dX3_groupOf_1 : decode cX3_groupOf 1 = .ok (.iconst 0, 1) := dk_3 (dk_at dksX3_groupOf_0 1 rfl rfl)
theorem dX3_groupOf_2 : decode cX3_groupOf 2 = .ok (.putfield 100, 3) := dk_181 0 100 (dk_at dksX3_groupOf_0 2 rfl rfl)
theorem dX3_groupOf_5 : decode cX3_groupOf 5 = .ok (.aload_n 0, 1) := dk_42 (dk_at dksX3_groupOf_0 5 rfl rfl)
theorem dX3_groupOf_6 : decode cX3_groupOf 6 = .ok (.iload_n 1, 1) := dk_27 (dk_at dksX3_groupOf_0 6 rfl rfl)
theorem dX3_groupOf_7 : decode cX3_groupOf 7 = .ok (.invokevirtual 240, 3) := dk_182 0 240 (dk_at dksX3_groupOf_0 7 rfl rfl)
theorem dX3_groupOf_10 : decode cX3_groupOf 10 = .ok (.ifCond .ne 9, 3) := dk_154 0 9 (dk_at dksX3_groupOf_0 10 rfl rfl)
theorem dX3_groupOf_13 : decode cX3_groupOf 13 = .ok (.aload_n 0, 1) := dk_42 (dk_at dksX3_groupOf_0 13 rfl rfl)
theorem dX3_groupOf_14 : decode cX3_groupOf 14 = .ok (.iconst 1, 1) := dk_4 (dk_at dksX3_groupOf_0 14 rfl rfl)
theorem dX3_groupOf_15 : decode cX3_groupOf 15 = .ok (.invokevirtual 141, 3) := dk_182 0 141 (dk_at dksX3_groupOf_0 15 rfl rfl)
theorem dX3_groupOf_18 : decode cX3_groupOf 18 = .ok (.ireturn, 1) := dk_172 (dk_at dksX3_groupOf_0 18 rfl rfl)
theorem dX3_groupOf_19 : decode cX3_groupOf 19 = .ok (.aload_n 0, 1) := dk_42 (dk_at dksX3_groupOf_0 19 rfl rfl)
theorem dX3_groupOf_20 : decode cX3_groupOf 20 = .ok (.invokevirtual 158, 3) := dk_182 0 158 (dk_at dksX3_groupOf_0 20 rfl rfl)
theorem dX3_groupOf_23 : decode cX3_groupOf 23 = .ok (.aload_n 0, 1) := dk_42 (dk_at dksX3_groupOf_0 23 rfl rfl)
theorem dX3_groupOf_24 : decode cX3_groupOf 24 = .ok (.getfield 66, 3) := dk_180 0 66 (dk_at dksX3_groupOf_1 0 rfl rfl)
theorem dX3_groupOf_27 : decode cX3_groupOf 27 = .ok (.iload_n 1, 1) := dk_27 (dk_at dksX3_groupOf_1 3 rfl rfl)
theorem dX3_groupOf_28 : decode cX3_groupOf 28 = .ok (.iaload, 1) := dk_46 (dk_at dksX3_groupOf_1 4 rfl rfl)
theorem dX3_groupOf_29 : decode cX3_groupOf 29 = .ok (.ireturn, 1) := dk_172 (dk_at dksX3_groupOf_1 5 rfl rfl)
abbrev cX3_group : ByteArray := prog_16_method_80_code
def yX3_group : MethodName := ⟨RX3, "group", "(II)I"⟩
def dkwX3_group_4 : List UInt8 := [182, 0, 141, 172]
abbrev dktX3_group_4 : List UInt8 := dkwX3_group_4 ++ []
def dkwX3_group_3 : List UInt8 := [180, 0, 69, 27, 46, 172, 42, 180, 0, 72, 27, 46, 172, 42, 180, 0, 75, 27, 46, 172, 42, 5]
abbrev dktX3_group_3 : List UInt8 := dkwX3_group_3 ++ dktX3_group_4
def dkwX3_group_2 : List UInt8 := [42, 180, 0, 81, 27, 46, 172, 42, 180, 0, 78, 27, 46, 172, 42, 180, 0, 84, 27, 46, 172, 42]
abbrev dktX3_group_2 : List UInt8 := dkwX3_group_2 ++ dktX3_group_3
def dkwX3_group_1 : List UInt8 := [170, 0, 0, 0, 0, 0, 0, 82, 0, 0, 0, 0, 0, 0, 0, 5, 0, 0, 0, 40, 0, 0, 0, 47, 0, 0, 0, 54, 0, 0, 0, 61, 0, 0, 0, 68, 0, 0, 0, 75]
abbrev dktX3_group_1 : List UInt8 := dkwX3_group_1 ++ dktX3_group_2
def dkwX3_group_0 : List UInt8 := [42, 3, 181, 0, 100, 42, 182, 0, 158, 42, 27, 182, 1, 35, 154, 0, 9, 42, 4, 182, 0, 141, 172, 28]
abbrev dktX3_group_0 : List UInt8 := dkwX3_group_0 ++ dktX3_group_1
theorem dksX3_group_0 : cX3_group.data.toList.drop 0 = dktX3_group_0 := by decide +kernel
theorem dksX3_group_1 : cX3_group.data.toList.drop 24 = dktX3_group_1 := dk_seg dksX3_group_0 24 rfl rfl
theorem dksX3_group_2 : cX3_group.data.toList.drop 64 = dktX3_group_2 := dk_seg dksX3_group_1 40 rfl rfl
theorem dksX3_group_3 : cX3_group.data.toList.drop 86 = dktX3_group_3 := dk_seg dksX3_group_2 22 rfl rfl
theorem dksX3_group_4 : cX3_group.data.toList.drop 108 = dktX3_group_4 := dk_seg dksX3_group_3 22 rfl rfl
theorem dX3_group_0 : decode cX3_group 0 = .ok (.aload_n 0, 1) := dk_42 (dk_at dksX3_group_0 0 rfl rfl)
theorem dX3_group_1 : decode cX3_group 1 = .ok (.iconst 0, 1) := dk_3 (dk_at dksX3_group_0 1 rfl rfl)
theorem dX3_group_2 : decode cX3_group 2 = .ok (.putfield 100, 3) := dk_181 0 100 (dk_at dksX3_group_0 2 rfl rfl)
theorem dX3_group_5 : decode cX3_group 5 = .ok (.aload_n 0, 1) := dk_42 (dk_at dksX3_group_0 5 rfl rfl)
theorem dX3_group_6 : decode cX3_group 6 = .ok (.invokevirtual 158, 3) := dk_182 0 158 (dk_at dksX3_group_0 6 rfl rfl)
theorem dX3_group_9 : decode cX3_group 9 = .ok (.aload_n 0, 1) := dk_42 (dk_at dksX3_group_0 9 rfl rfl)
theorem dX3_group_10 : decode cX3_group 10 = .ok (.iload_n 1, 1) := dk_27 (dk_at dksX3_group_0 10 rfl rfl)
theorem dX3_group_11 : decode cX3_group 11 = .ok (.invokevirtual 291, 3) := dk_182 1 35 (dk_at dksX3_group_0 11 rfl rfl)
theorem dX3_group_14 : decode cX3_group 14 = .ok (.ifCond .ne 9, 3) := dk_154 0 9 (dk_at dksX3_group_0 14 rfl rfl)
theorem dX3_group_17 : decode cX3_group 17 = .ok (.aload_n 0, 1) := dk_42 (dk_at dksX3_group_0 17 rfl rfl)
theorem dX3_group_18 : decode cX3_group 18 = .ok (.iconst 1, 1) := dk_4 (dk_at dksX3_group_0 18 rfl rfl)
theorem dX3_group_19 : decode cX3_group 19 = .ok (.invokevirtual 141, 3) := dk_182 0 141 (dk_at dksX3_group_0 19 rfl rfl)
theorem dX3_group_22 : decode cX3_group 22 = .ok (.ireturn, 1) := dk_172 (dk_at dksX3_group_0 22 rfl rfl)
theorem dX3_group_23 : decode cX3_group 23 = .ok (.iload_n 2, 1) := dk_28 (dk_at dksX3_group_0 23 rfl rfl)
theorem dX3_group_24 : decode cX3_group 24 = .ok (.tableswitch 82 0 5 #[40, 47, 54, 61, 68, 75], 40) := by decide +kernel
theorem dX3_group_64 : decode cX3_group 64 = .ok (.aload_n 0, 1) := dk_42 (dk_at dksX3_group_2 0 rfl rfl)
theorem dX3_group_65 : decode cX3_group 65 = .ok (.getfield 81, 3) := dk_180 0 81 (dk_at dksX3_group_2 1 rfl rfl)
theorem dX3_group_68 : decode cX3_group 68 = .ok (.iload_n 1, 1) := dk_27 (dk_at dksX3_group_2 4 rfl rfl)
theorem dX3_group_69 : decode cX3_group 69 = .ok (.iaload, 1) := dk_46 (dk_at dksX3_group_2 5 rfl rfl)
theorem dX3_group_70 : decode cX3_group 70 = .ok (.ireturn, 1) := dk_172 (dk_at dksX3_group_2 6 rfl rfl)
theorem dX3_group_71 : decode cX3_group 71 = .ok (.aload_n 0, 1) := dk_42 (dk_at dksX3_group_2 7 rfl rfl)
theorem dX3_group_72 : decode cX3_group 72 = .ok (.getfield 78, 3) := dk_180 0 78 (dk_at dksX3_group_2 8 rfl rfl)
theorem dX3_group_75 : decode cX3_group 75 = .ok (.iload_n 1, 1) := dk_27 (dk_at dksX3_group_2 11 rfl rfl)
theorem dX3_group_76 : decode cX3_group 76 = .ok (.iaload, 1) := dk_46 (dk_at dksX3_group_2 12 rfl rfl)
theorem dX3_group_77 : decode cX3_group 77 = .ok (.ireturn, 1) := dk_172 (dk_at dksX3_group_2 13 rfl rfl)
theorem dX3_group_78 : decode cX3_group 78 = .ok (.aload_n 0, 1) := dk_42 (dk_at dksX3_group_2 14 rfl rfl)
theorem dX3_group_79 : decode cX3_group 79 = .ok (.getfield 84, 3) := dk_180 0 84 (dk_at dksX3_group_2 15 rfl rfl)
theorem dX3_group_82 : decode cX3_group 82 = .ok (.iload_n 1, 1) := dk_27 (dk_at dksX3_group_2 18 rfl rfl)
theorem dX3_group_83 : decode cX3_group 83 = .ok (.iaload, 1) := dk_46 (dk_at dksX3_group_2 19 rfl rfl)
theorem dX3_group_84 : decode cX3_group 84 = .ok (.ireturn, 1) := dk_172 (dk_at dksX3_group_2 20 rfl rfl)
theorem dX3_group_85 : decode cX3_group 85 = .ok (.aload_n 0, 1) := dk_42 (dk_at dksX3_group_2 21 rfl rfl)
theorem dX3_group_86 : decode cX3_group 86 = .ok (.getfield 69, 3) := dk_180 0 69 (dk_at dksX3_group_3 0 rfl rfl)
theorem dX3_group_89 : decode cX3_group 89 = .ok (.iload_n 1, 1) := dk_27 (dk_at dksX3_group_3 3 rfl rfl)
theorem dX3_group_90 : decode cX3_group 90 = .ok (.iaload, 1) := dk_46 (dk_at dksX3_group_3 4 rfl rfl)
theorem dX3_group_91 : decode cX3_group 91 = .ok (.ireturn, 1) := dk_172 (dk_at dksX3_group_3 5 rfl rfl)
theorem dX3_group_92 : decode cX3_group 92 = .ok (.aload_n 0, 1) := dk_42 (dk_at dksX3_group_3 6 rfl rfl)
theorem dX3_group_93 : decode cX3_group 93 = .ok (.getfield 72, 3) := dk_180 0 72 (dk_at dksX3_group_3 7 rfl rfl)
theorem dX3_group_96 : decode cX3_group 96 = .ok (.iload_n 1, 1) := dk_27 (dk_at dksX3_group_3 10 rfl rfl)
theorem dX3_group_97 : decode cX3_group 97 = .ok (.iaload, 1) := dk_46 (dk_at dksX3_group_3 11 rfl rfl)
theorem dX3_group_98 : decode cX3_group 98 = .ok (.ireturn, 1) := dk_172 (dk_at dksX3_group_3 12 rfl rfl)
theorem dX3_group_99 : decode cX3_group 99 = .ok (.aload_n 0, 1) := dk_42 (dk_at dksX3_group_3 13 rfl rfl)
theorem dX3_group_100 : decode cX3_group 100 = .ok (.getfield 75, 3) := dk_180 0 75 (dk_at dksX3_group_3 14 rfl rfl)
theorem dX3_group_103 : decode cX3_group 103 = .ok (.iload_n 1, 1) := dk_27 (dk_at dksX3_group_3 17 rfl rfl)
theorem dX3_group_104 : decode cX3_group 104 = .ok (.iaload, 1) := dk_46 (dk_at dksX3_group_3 18 rfl rfl)
theorem dX3_group_105 : decode cX3_group 105 = .ok (.ireturn, 1) := dk_172 (dk_at dksX3_group_3 19 rfl rfl)
theorem dX3_group_106 : decode cX3_group 106 = .ok (.aload_n 0, 1) := dk_42 (dk_at dksX3_group_3 20 rfl rfl)
theorem dX3_group_107 : decode cX3_group 107 = .ok (.iconst 2, 1) := dk_5 (dk_at dksX3_group_3 21 rfl rfl)
theorem dX3_group_108 : decode cX3_group 108 = .ok (.invokevirtual 141, 3) := dk_182 0 141 (dk_at dksX3_group_4 0 rfl rfl)
theorem dX3_group_111 : decode cX3_group 111 = .ok (.ireturn, 1) := dk_172 (dk_at dksX3_group_4 3 rfl rfl)
abbrev cX3_isGroup : ByteArray := prog_16_method_79_code
def yX3_isGroup : MethodName := ⟨RX3, "isGroup", "(I)Z"⟩
def dkwX3_isGroup_0 : List UInt8 := [27, 3, 42, 180, 0, 161, 4, 100, 184, 0, 111, 172]
abbrev dktX3_isGroup_0 : List UInt8 := dkwX3_isGroup_0 ++ []
theorem dksX3_isGroup_0 : cX3_isGroup.data.toList.drop 0 = dktX3_isGroup_0 := by decide +kernel
theorem dX3_isGroup_0 : decode cX3_isGroup 0 = .ok (.iload_n 1, 1) := dk_27 (dk_at dksX3_isGroup_0 0 rfl rfl)
theorem dX3_isGroup_1 : decode cX3_isGroup 1 = .ok (.iconst 0, 1) := dk_3 (dk_at dksX3_isGroup_0 1 rfl rfl)
theorem dX3_isGroup_2 : decode cX3_isGroup 2 = .ok (.aload_n 0, 1) := dk_42 (dk_at dksX3_isGroup_0 2 rfl rfl)
theorem dX3_isGroup_3 : decode cX3_isGroup 3 = .ok (.getfield 161, 3) := dk_180 0 161 (dk_at dksX3_isGroup_0 3 rfl rfl)
theorem dX3_isGroup_6 : decode cX3_isGroup 6 = .ok (.iconst 1, 1) := dk_4 (dk_at dksX3_isGroup_0 6 rfl rfl)
theorem dX3_isGroup_7 : decode cX3_isGroup 7 = .ok (.isub, 1) := dk_100 (dk_at dksX3_isGroup_0 7 rfl rfl)
theorem dX3_isGroup_8 : decode cX3_isGroup 8 = .ok (.invokestatic 111, 3) := dk_184 0 111 (dk_at dksX3_isGroup_0 8 rfl rfl)
theorem dX3_isGroup_11 : decode cX3_isGroup 11 = .ok (.ireturn, 1) := dk_172 (dk_at dksX3_isGroup_0 11 rfl rfl)
abbrev cX3_strongestGroup : ByteArray := prog_16_method_82_code
def yX3_strongestGroup : MethodName := ⟨RX3, "strongestGroup", "()I"⟩
def dkwX3_strongestGroup_3 : List UInt8 := [46, 164, 0, 5, 28, 60, 132, 2, 1, 167, 255, 191, 27, 172]
abbrev dktX3_strongestGroup_3 : List UInt8 := dkwX3_strongestGroup_3 ++ []
def dkwX3_strongestGroup_2 : List UInt8 := [184, 1, 38, 100, 62, 29, 157, 0, 22, 29, 154, 0, 20, 42, 180, 0, 81, 28, 46, 42, 180, 0, 81, 27]
abbrev dktX3_strongestGroup_2 : List UInt8 := dkwX3_strongestGroup_2 ++ dktX3_strongestGroup_3
def dkwX3_strongestGroup_1 : List UInt8 := [160, 0, 7, 4, 167, 0, 22, 42, 180, 0, 84, 28, 46, 184, 1, 38, 42, 180, 0, 84, 27, 46]
abbrev dktX3_strongestGroup_1 : List UInt8 := dkwX3_strongestGroup_1 ++ dktX3_strongestGroup_2
def dkwX3_strongestGroup_0 : List UInt8 := [42, 3, 181, 0, 100, 42, 182, 0, 158, 2, 60, 3, 61, 28, 42, 180, 0, 161, 162, 0, 63, 27, 2]
abbrev dktX3_strongestGroup_0 : List UInt8 := dkwX3_strongestGroup_0 ++ dktX3_strongestGroup_1
theorem dksX3_strongestGroup_0 : cX3_strongestGroup.data.toList.drop 0 = dktX3_strongestGroup_0 := by decide +kernel
theorem dksX3_strongestGroup_1 : cX3_strongestGroup.data.toList.drop 23 = dktX3_strongestGroup_1 := dk_seg dksX3_strongestGroup_0 23 rfl rfl
theorem dksX3_strongestGroup_2 : cX3_strongestGroup.data.toList.drop 45 = dktX3_strongestGroup_2 := dk_seg dksX3_strongestGroup_1 22 rfl rfl
theorem dksX3_strongestGroup_3 : cX3_strongestGroup.data.toList.drop 69 = dktX3_strongestGroup_3 := dk_seg dksX3_strongestGroup_2 24 rfl rfl
theorem dX3_strongestGroup_0 : decode cX3_strongestGroup 0 = .ok (.aload_n 0, 1) := dk_42 (dk_at dksX3_strongestGroup_0 0 rfl rfl)
theorem dX3_strongestGroup_1 : decode cX3_strongestGroup 1 = .ok (.iconst 0, 1) := dk_3 (dk_at dksX3_strongestGroup_0 1 rfl rfl)
theorem dX3_strongestGroup_2 : decode cX3_strongestGroup 2 = .ok (.putfield 100, 3) := dk_181 0 100 (dk_at dksX3_strongestGroup_0 2 rfl rfl)
theorem dX3_strongestGroup_5 : decode cX3_strongestGroup 5 = .ok (.aload_n 0, 1) := dk_42 (dk_at dksX3_strongestGroup_0 5 rfl rfl)
theorem dX3_strongestGroup_6 : decode cX3_strongestGroup 6 = .ok (.invokevirtual 158, 3) := dk_182 0 158 (dk_at dksX3_strongestGroup_0 6 rfl rfl)
theorem dX3_strongestGroup_9 : decode cX3_strongestGroup 9 = .ok (.iconst (-1), 1) := dk_2 (dk_at dksX3_strongestGroup_0 9 rfl rfl)
theorem dX3_strongestGroup_10 : decode cX3_strongestGroup 10 = .ok (.istore_n 1, 1) := dk_60 (dk_at dksX3_strongestGroup_0 10 rfl rfl)
theorem dX3_strongestGroup_11 : decode cX3_strongestGroup 11 = .ok (.iconst 0, 1) := dk_3 (dk_at dksX3_strongestGroup_0 11 rfl rfl)
theorem dX3_strongestGroup_12 : decode cX3_strongestGroup 12 = .ok (.istore_n 2, 1) := dk_61 (dk_at dksX3_strongestGroup_0 12 rfl rfl)
theorem dX3_strongestGroup_13 : decode cX3_strongestGroup 13 = .ok (.iload_n 2, 1) := dk_28 (dk_at dksX3_strongestGroup_0 13 rfl rfl)
theorem dX3_strongestGroup_14 : decode cX3_strongestGroup 14 = .ok (.aload_n 0, 1) := dk_42 (dk_at dksX3_strongestGroup_0 14 rfl rfl)
theorem dX3_strongestGroup_15 : decode cX3_strongestGroup 15 = .ok (.getfield 161, 3) := dk_180 0 161 (dk_at dksX3_strongestGroup_0 15 rfl rfl)
theorem dX3_strongestGroup_18 : decode cX3_strongestGroup 18 = .ok (.if_icmp .ge 63, 3) := dk_162 0 63 (dk_at dksX3_strongestGroup_0 18 rfl rfl)
theorem dX3_strongestGroup_21 : decode cX3_strongestGroup 21 = .ok (.iload_n 1, 1) := dk_27 (dk_at dksX3_strongestGroup_0 21 rfl rfl)
theorem dX3_strongestGroup_22 : decode cX3_strongestGroup 22 = .ok (.iconst (-1), 1) := dk_2 (dk_at dksX3_strongestGroup_0 22 rfl rfl)
theorem dX3_strongestGroup_23 : decode cX3_strongestGroup 23 = .ok (.if_icmp .ne 7, 3) := dk_160 0 7 (dk_at dksX3_strongestGroup_1 0 rfl rfl)
theorem dX3_strongestGroup_26 : decode cX3_strongestGroup 26 = .ok (.iconst 1, 1) := dk_4 (dk_at dksX3_strongestGroup_1 3 rfl rfl)
theorem dX3_strongestGroup_27 : decode cX3_strongestGroup 27 = .ok (.goto 22, 3) := dk_167 0 22 (dk_at dksX3_strongestGroup_1 4 rfl rfl)
theorem dX3_strongestGroup_30 : decode cX3_strongestGroup 30 = .ok (.aload_n 0, 1) := dk_42 (dk_at dksX3_strongestGroup_1 7 rfl rfl)
theorem dX3_strongestGroup_31 : decode cX3_strongestGroup 31 = .ok (.getfield 84, 3) := dk_180 0 84 (dk_at dksX3_strongestGroup_1 8 rfl rfl)
theorem dX3_strongestGroup_34 : decode cX3_strongestGroup 34 = .ok (.iload_n 2, 1) := dk_28 (dk_at dksX3_strongestGroup_1 11 rfl rfl)
theorem dX3_strongestGroup_35 : decode cX3_strongestGroup 35 = .ok (.iaload, 1) := dk_46 (dk_at dksX3_strongestGroup_1 12 rfl rfl)
theorem dX3_strongestGroup_36 : decode cX3_strongestGroup 36 = .ok (.invokestatic 294, 3) := dk_184 1 38 (dk_at dksX3_strongestGroup_1 13 rfl rfl)
theorem dX3_strongestGroup_39 : decode cX3_strongestGroup 39 = .ok (.aload_n 0, 1) := dk_42 (dk_at dksX3_strongestGroup_1 16 rfl rfl)
theorem dX3_strongestGroup_40 : decode cX3_strongestGroup 40 = .ok (.getfield 84, 3) := dk_180 0 84 (dk_at dksX3_strongestGroup_1 17 rfl rfl)
theorem dX3_strongestGroup_43 : decode cX3_strongestGroup 43 = .ok (.iload_n 1, 1) := dk_27 (dk_at dksX3_strongestGroup_1 20 rfl rfl)
theorem dX3_strongestGroup_44 : decode cX3_strongestGroup 44 = .ok (.iaload, 1) := dk_46 (dk_at dksX3_strongestGroup_1 21 rfl rfl)
theorem dX3_strongestGroup_45 : decode cX3_strongestGroup 45 = .ok (.invokestatic 294, 3) := dk_184 1 38 (dk_at dksX3_strongestGroup_2 0 rfl rfl)
theorem dX3_strongestGroup_48 : decode cX3_strongestGroup 48 = .ok (.isub, 1) := dk_100 (dk_at dksX3_strongestGroup_2 3 rfl rfl)
theorem dX3_strongestGroup_49 : decode cX3_strongestGroup 49 = .ok (.istore_n 3, 1) := dk_62 (dk_at dksX3_strongestGroup_2 4 rfl rfl)
theorem dX3_strongestGroup_50 : decode cX3_strongestGroup 50 = .ok (.iload_n 3, 1) := dk_29 (dk_at dksX3_strongestGroup_2 5 rfl rfl)
theorem dX3_strongestGroup_51 : decode cX3_strongestGroup 51 = .ok (.ifCond .gt 22, 3) := dk_157 0 22 (dk_at dksX3_strongestGroup_2 6 rfl rfl)
theorem dX3_strongestGroup_54 : decode cX3_strongestGroup 54 = .ok (.iload_n 3, 1) := dk_29 (dk_at dksX3_strongestGroup_2 9 rfl rfl)
theorem dX3_strongestGroup_55 : decode cX3_strongestGroup 55 = .ok (.ifCond .ne 20, 3) := dk_154 0 20 (dk_at dksX3_strongestGroup_2 10 rfl rfl)
theorem dX3_strongestGroup_58 : decode cX3_strongestGroup 58 = .ok (.aload_n 0, 1) := dk_42 (dk_at dksX3_strongestGroup_2 13 rfl rfl)
theorem dX3_strongestGroup_59 : decode cX3_strongestGroup 59 = .ok (.getfield 81, 3) := dk_180 0 81 (dk_at dksX3_strongestGroup_2 14 rfl rfl)
theorem dX3_strongestGroup_62 : decode cX3_strongestGroup 62 = .ok (.iload_n 2, 1) := dk_28 (dk_at dksX3_strongestGroup_2 17 rfl rfl)
theorem dX3_strongestGroup_63 : decode cX3_strongestGroup 63 = .ok (.iaload, 1) := dk_46 (dk_at dksX3_strongestGroup_2 18 rfl rfl)
theorem dX3_strongestGroup_64 : decode cX3_strongestGroup 64 = .ok (.aload_n 0, 1) := dk_42 (dk_at dksX3_strongestGroup_2 19 rfl rfl)
theorem dX3_strongestGroup_65 : decode cX3_strongestGroup 65 = .ok (.getfield 81, 3) := dk_180 0 81 (dk_at dksX3_strongestGroup_2 20 rfl rfl)
theorem dX3_strongestGroup_68 : decode cX3_strongestGroup 68 = .ok (.iload_n 1, 1) := dk_27 (dk_at dksX3_strongestGroup_2 23 rfl rfl)
theorem dX3_strongestGroup_69 : decode cX3_strongestGroup 69 = .ok (.iaload, 1) := dk_46 (dk_at dksX3_strongestGroup_3 0 rfl rfl)
theorem dX3_strongestGroup_70 : decode cX3_strongestGroup 70 = .ok (.if_icmp .le 5, 3) := dk_164 0 5 (dk_at dksX3_strongestGroup_3 1 rfl rfl)
theorem dX3_strongestGroup_73 : decode cX3_strongestGroup 73 = .ok (.iload_n 2, 1) := dk_28 (dk_at dksX3_strongestGroup_3 4 rfl rfl)
theorem dX3_strongestGroup_74 : decode cX3_strongestGroup 74 = .ok (.istore_n 1, 1) := dk_60 (dk_at dksX3_strongestGroup_3 5 rfl rfl)
theorem dX3_strongestGroup_75 : decode cX3_strongestGroup 75 = .ok (.iinc 2 1, 3) := dk_132 2 1 (dk_at dksX3_strongestGroup_3 6 rfl rfl)
theorem dX3_strongestGroup_78 : decode cX3_strongestGroup 78 = .ok (.goto (-65), 3) := dk_167 255 191 (dk_at dksX3_strongestGroup_3 9 rfl rfl)
theorem dX3_strongestGroup_81 : decode cX3_strongestGroup 81 = .ok (.iload_n 1, 1) := dk_27 (dk_at dksX3_strongestGroup_3 12 rfl rfl)
theorem dX3_strongestGroup_82 : decode cX3_strongestGroup 82 = .ok (.ireturn, 1) := dk_172 (dk_at dksX3_strongestGroup_3 13 rfl rfl)
abbrev cX3_bitsOf : ByteArray := prog_16_method_81_code
def yX3_bitsOf : MethodName := ⟨RX3, "bitsOf", "(I)I"⟩
def dkwX3_bitsOf_1 : List UInt8 := [27, 172]
abbrev dktX3_bitsOf_1 : List UInt8 := dkwX3_bitsOf_1 ++ []
def dkwX3_bitsOf_0 : List UInt8 := [3, 60, 3, 61, 28, 16, 6, 162, 0, 17, 27, 26, 28, 122, 4, 126, 96, 60, 132, 2, 1, 167, 255, 239]
abbrev dktX3_bitsOf_0 : List UInt8 := dkwX3_bitsOf_0 ++ dktX3_bitsOf_1
theorem dksX3_bitsOf_0 : cX3_bitsOf.data.toList.drop 0 = dktX3_bitsOf_0 := by decide +kernel
theorem dksX3_bitsOf_1 : cX3_bitsOf.data.toList.drop 24 = dktX3_bitsOf_1 := dk_seg dksX3_bitsOf_0 24 rfl rfl
theorem dX3_bitsOf_0 : decode cX3_bitsOf 0 = .ok (.iconst 0, 1) := dk_3 (dk_at dksX3_bitsOf_0 0 rfl rfl)
theorem dX3_bitsOf_1 : decode cX3_bitsOf 1 = .ok (.istore_n 1, 1) := dk_60 (dk_at dksX3_bitsOf_0 1 rfl rfl)
theorem dX3_bitsOf_2 : decode cX3_bitsOf 2 = .ok (.iconst 0, 1) := dk_3 (dk_at dksX3_bitsOf_0 2 rfl rfl)
theorem dX3_bitsOf_3 : decode cX3_bitsOf 3 = .ok (.istore_n 2, 1) := dk_61 (dk_at dksX3_bitsOf_0 3 rfl rfl)
theorem dX3_bitsOf_4 : decode cX3_bitsOf 4 = .ok (.iload_n 2, 1) := dk_28 (dk_at dksX3_bitsOf_0 4 rfl rfl)
theorem dX3_bitsOf_5 : decode cX3_bitsOf 5 = .ok (.bipush 6, 2) := dk_16 6 (dk_at dksX3_bitsOf_0 5 rfl rfl)
theorem dX3_bitsOf_7 : decode cX3_bitsOf 7 = .ok (.if_icmp .ge 17, 3) := dk_162 0 17 (dk_at dksX3_bitsOf_0 7 rfl rfl)
theorem dX3_bitsOf_10 : decode cX3_bitsOf 10 = .ok (.iload_n 1, 1) := dk_27 (dk_at dksX3_bitsOf_0 10 rfl rfl)
theorem dX3_bitsOf_11 : decode cX3_bitsOf 11 = .ok (.iload_n 0, 1) := dk_26 (dk_at dksX3_bitsOf_0 11 rfl rfl)
theorem dX3_bitsOf_12 : decode cX3_bitsOf 12 = .ok (.iload_n 2, 1) := dk_28 (dk_at dksX3_bitsOf_0 12 rfl rfl)
theorem dX3_bitsOf_13 : decode cX3_bitsOf 13 = .ok (.ishr, 1) := dk_122 (dk_at dksX3_bitsOf_0 13 rfl rfl)
theorem dX3_bitsOf_14 : decode cX3_bitsOf 14 = .ok (.iconst 1, 1) := dk_4 (dk_at dksX3_bitsOf_0 14 rfl rfl)
theorem dX3_bitsOf_15 : decode cX3_bitsOf 15 = .ok (.iand, 1) := dk_126 (dk_at dksX3_bitsOf_0 15 rfl rfl)
theorem dX3_bitsOf_16 : decode cX3_bitsOf 16 = .ok (.iadd, 1) := dk_96 (dk_at dksX3_bitsOf_0 16 rfl rfl)
theorem dX3_bitsOf_17 : decode cX3_bitsOf 17 = .ok (.istore_n 1, 1) := dk_60 (dk_at dksX3_bitsOf_0 17 rfl rfl)
theorem dX3_bitsOf_18 : decode cX3_bitsOf 18 = .ok (.iinc 2 1, 3) := dk_132 2 1 (dk_at dksX3_bitsOf_0 18 rfl rfl)
theorem dX3_bitsOf_21 : decode cX3_bitsOf 21 = .ok (.goto (-17), 3) := dk_167 255 239 (dk_at dksX3_bitsOf_0 21 rfl rfl)
theorem dX3_bitsOf_24 : decode cX3_bitsOf 24 = .ok (.iload_n 1, 1) := dk_27 (dk_at dksX3_bitsOf_1 0 rfl rfl)
theorem dX3_bitsOf_25 : decode cX3_bitsOf 25 = .ok (.ireturn, 1) := dk_172 (dk_at dksX3_bitsOf_1 1 rfl rfl)
abbrev cX3_heat : ByteArray := prog_16_method_85_code
def yX3_heat : MethodName := ⟨RX3, "heat", "(I)I"⟩
def dkwX3_heat_1 : List UInt8 := [27, 182, 1, 44, 172]
abbrev dktX3_heat_1 : List UInt8 := dkwX3_heat_1 ++ []
def dkwX3_heat_0 : List UInt8 := [42, 3, 181, 0, 100, 42, 27, 182, 1, 41, 154, 0, 9, 42, 4, 182, 0, 141, 172, 42, 182, 1, 6, 42]
abbrev dktX3_heat_0 : List UInt8 := dkwX3_heat_0 ++ dktX3_heat_1
theorem dksX3_heat_0 : cX3_heat.data.toList.drop 0 = dktX3_heat_0 := by decide +kernel
theorem dksX3_heat_1 : cX3_heat.data.toList.drop 24 = dktX3_heat_1 := dk_seg dksX3_heat_0 24 rfl rfl
theorem dX3_heat_0 : decode cX3_heat 0 = .ok (.aload_n 0, 1) := dk_42 (dk_at dksX3_heat_0 0 rfl rfl)
theorem dX3_heat_1 : decode cX3_heat 1 = .ok (.iconst 0, 1) := dk_3 (dk_at dksX3_heat_0 1 rfl rfl)
theorem dX3_heat_2 : decode cX3_heat 2 = .ok (.putfield 100, 3) := dk_181 0 100 (dk_at dksX3_heat_0 2 rfl rfl)
theorem dX3_heat_5 : decode cX3_heat 5 = .ok (.aload_n 0, 1) := dk_42 (dk_at dksX3_heat_0 5 rfl rfl)
theorem dX3_heat_6 : decode cX3_heat 6 = .ok (.iload_n 1, 1) := dk_27 (dk_at dksX3_heat_0 6 rfl rfl)
theorem dX3_heat_7 : decode cX3_heat 7 = .ok (.invokevirtual 297, 3) := dk_182 1 41 (dk_at dksX3_heat_0 7 rfl rfl)
theorem dX3_heat_10 : decode cX3_heat 10 = .ok (.ifCond .ne 9, 3) := dk_154 0 9 (dk_at dksX3_heat_0 10 rfl rfl)
theorem dX3_heat_13 : decode cX3_heat 13 = .ok (.aload_n 0, 1) := dk_42 (dk_at dksX3_heat_0 13 rfl rfl)
theorem dX3_heat_14 : decode cX3_heat 14 = .ok (.iconst 1, 1) := dk_4 (dk_at dksX3_heat_0 14 rfl rfl)
theorem dX3_heat_15 : decode cX3_heat 15 = .ok (.invokevirtual 141, 3) := dk_182 0 141 (dk_at dksX3_heat_0 15 rfl rfl)
theorem dX3_heat_18 : decode cX3_heat 18 = .ok (.ireturn, 1) := dk_172 (dk_at dksX3_heat_0 18 rfl rfl)
theorem dX3_heat_19 : decode cX3_heat 19 = .ok (.aload_n 0, 1) := dk_42 (dk_at dksX3_heat_0 19 rfl rfl)
theorem dX3_heat_20 : decode cX3_heat 20 = .ok (.invokevirtual 262, 3) := dk_182 1 6 (dk_at dksX3_heat_0 20 rfl rfl)
theorem dX3_heat_23 : decode cX3_heat 23 = .ok (.aload_n 0, 1) := dk_42 (dk_at dksX3_heat_0 23 rfl rfl)
theorem dX3_heat_24 : decode cX3_heat 24 = .ok (.iload_n 1, 1) := dk_27 (dk_at dksX3_heat_1 0 rfl rfl)
theorem dX3_heat_25 : decode cX3_heat 25 = .ok (.invokevirtual 300, 3) := dk_182 1 44 (dk_at dksX3_heat_1 1 rfl rfl)
theorem dX3_heat_28 : decode cX3_heat 28 = .ok (.ireturn, 1) := dk_172 (dk_at dksX3_heat_1 4 rfl rfl)
abbrev cX3_isTargetWord : ByteArray := prog_16_method_84_code
def yX3_isTargetWord : MethodName := ⟨RX3, "isTargetWord", "(I)Z"⟩
def dkwX3_isTargetWord_1 : List UInt8 := [172]
abbrev dktX3_isTargetWord_1 : List UInt8 := dkwX3_isTargetWord_1 ++ []
def dkwX3_isTargetWord_0 : List UInt8 := [42, 182, 0, 107, 158, 0, 19, 42, 42, 182, 0, 164, 27, 182, 0, 198, 153, 0, 7, 4, 167, 0, 4, 3]
abbrev dktX3_isTargetWord_0 : List UInt8 := dkwX3_isTargetWord_0 ++ dktX3_isTargetWord_1
theorem dksX3_isTargetWord_0 : cX3_isTargetWord.data.toList.drop 0 = dktX3_isTargetWord_0 := by decide +kernel
theorem dksX3_isTargetWord_1 : cX3_isTargetWord.data.toList.drop 24 = dktX3_isTargetWord_1 := dk_seg dksX3_isTargetWord_0 24 rfl rfl
theorem dX3_isTargetWord_0 : decode cX3_isTargetWord 0 = .ok (.aload_n 0, 1) := dk_42 (dk_at dksX3_isTargetWord_0 0 rfl rfl)
theorem dX3_isTargetWord_1 : decode cX3_isTargetWord 1 = .ok (.invokevirtual 107, 3) := dk_182 0 107 (dk_at dksX3_isTargetWord_0 1 rfl rfl)
theorem dX3_isTargetWord_4 : decode cX3_isTargetWord 4 = .ok (.ifCond .le 19, 3) := dk_158 0 19 (dk_at dksX3_isTargetWord_0 4 rfl rfl)
theorem dX3_isTargetWord_7 : decode cX3_isTargetWord 7 = .ok (.aload_n 0, 1) := dk_42 (dk_at dksX3_isTargetWord_0 7 rfl rfl)
theorem dX3_isTargetWord_8 : decode cX3_isTargetWord 8 = .ok (.aload_n 0, 1) := dk_42 (dk_at dksX3_isTargetWord_0 8 rfl rfl)
theorem dX3_isTargetWord_9 : decode cX3_isTargetWord 9 = .ok (.invokevirtual 164, 3) := dk_182 0 164 (dk_at dksX3_isTargetWord_0 9 rfl rfl)
theorem dX3_isTargetWord_12 : decode cX3_isTargetWord 12 = .ok (.iload_n 1, 1) := dk_27 (dk_at dksX3_isTargetWord_0 12 rfl rfl)
theorem dX3_isTargetWord_13 : decode cX3_isTargetWord 13 = .ok (.invokevirtual 198, 3) := dk_182 0 198 (dk_at dksX3_isTargetWord_0 13 rfl rfl)
theorem dX3_isTargetWord_16 : decode cX3_isTargetWord 16 = .ok (.ifCond .eq 7, 3) := dk_153 0 7 (dk_at dksX3_isTargetWord_0 16 rfl rfl)
theorem dX3_isTargetWord_19 : decode cX3_isTargetWord 19 = .ok (.iconst 1, 1) := dk_4 (dk_at dksX3_isTargetWord_0 19 rfl rfl)
theorem dX3_isTargetWord_20 : decode cX3_isTargetWord 20 = .ok (.goto 4, 3) := dk_167 0 4 (dk_at dksX3_isTargetWord_0 20 rfl rfl)
theorem dX3_isTargetWord_23 : decode cX3_isTargetWord 23 = .ok (.iconst 0, 1) := dk_3 (dk_at dksX3_isTargetWord_0 23 rfl rfl)
theorem dX3_isTargetWord_24 : decode cX3_isTargetWord 24 = .ok (.ireturn, 1) := dk_172 (dk_at dksX3_isTargetWord_1 0 rfl rfl)
abbrev cX3_heatOf : ByteArray := prog_16_method_83_code
def yX3_heatOf : MethodName := ⟨RX3, "heatOf", "(I)I"⟩
def dkwX3_heatOf_3 : List UInt8 := [167, 255, 189, 28, 184, 1, 38, 172]
abbrev dktX3_heatOf_3 : List UInt8 := dkwX3_heatOf_3 ++ []
def dkwX3_heatOf_2 : List UInt8 := [28, 21, 4, 153, 0, 14, 4, 42, 29, 3, 182, 0, 205, 120, 167, 0, 4, 3, 128, 61, 132, 3, 1]
abbrev dktX3_heatOf_2 : List UInt8 := dkwX3_heatOf_2 ++ dktX3_heatOf_3
def dkwX3_heatOf_1 : List UInt8 := [180, 0, 57, 29, 46, 42, 180, 0, 60, 29, 46, 184, 0, 111, 153, 0, 7, 4, 167, 0, 4, 3, 54, 4]
abbrev dktX3_heatOf_1 : List UInt8 := dkwX3_heatOf_1 ++ dktX3_heatOf_2
def dkwX3_heatOf_0 : List UInt8 := [3, 61, 3, 62, 29, 42, 182, 0, 126, 162, 0, 65, 42, 180, 0, 54, 29, 46, 6, 159, 0, 26, 27, 42]
abbrev dktX3_heatOf_0 : List UInt8 := dkwX3_heatOf_0 ++ dktX3_heatOf_1
theorem dksX3_heatOf_0 : cX3_heatOf.data.toList.drop 0 = dktX3_heatOf_0 := by decide +kernel
theorem dksX3_heatOf_1 : cX3_heatOf.data.toList.drop 24 = dktX3_heatOf_1 := dk_seg dksX3_heatOf_0 24 rfl rfl
theorem dksX3_heatOf_2 : cX3_heatOf.data.toList.drop 48 = dktX3_heatOf_2 := dk_seg dksX3_heatOf_1 24 rfl rfl
theorem dksX3_heatOf_3 : cX3_heatOf.data.toList.drop 71 = dktX3_heatOf_3 := dk_seg dksX3_heatOf_2 23 rfl rfl
theorem dX3_heatOf_0 : decode cX3_heatOf 0 = .ok (.iconst 0, 1) := dk_3 (dk_at dksX3_heatOf_0 0 rfl rfl)
theorem dX3_heatOf_1 : decode cX3_heatOf 1 = .ok (.istore_n 2, 1) := dk_61 (dk_at dksX3_heatOf_0 1 rfl rfl)
theorem dX3_heatOf_2 : decode cX3_heatOf 2 = .ok (.iconst 0, 1) := dk_3 (dk_at dksX3_heatOf_0 2 rfl rfl)
theorem dX3_heatOf_3 : decode cX3_heatOf 3 = .ok (.istore_n 3, 1) := dk_62 (dk_at dksX3_heatOf_0 3 rfl rfl)
theorem dX3_heatOf_4 : decode cX3_heatOf 4 = .ok (.iload_n 3, 1) := dk_29 (dk_at dksX3_heatOf_0 4 rfl rfl)
theorem dX3_heatOf_5 : decode cX3_heatOf 5 = .ok (.aload_n 0, 1) := dk_42 (dk_at dksX3_heatOf_0 5 rfl rfl)
theorem dX3_heatOf_6 : decode cX3_heatOf 6 = .ok (.invokevirtual 126, 3) := dk_182 0 126 (dk_at dksX3_heatOf_0 6 rfl rfl)
theorem dX3_heatOf_9 : decode cX3_heatOf 9 = .ok (.if_icmp .ge 65, 3) := dk_162 0 65 (dk_at dksX3_heatOf_0 9 rfl rfl)
theorem dX3_heatOf_12 : decode cX3_heatOf 12 = .ok (.aload_n 0, 1) := dk_42 (dk_at dksX3_heatOf_0 12 rfl rfl)
theorem dX3_heatOf_13 : decode cX3_heatOf 13 = .ok (.getfield 54, 3) := dk_180 0 54 (dk_at dksX3_heatOf_0 13 rfl rfl)
theorem dX3_heatOf_16 : decode cX3_heatOf 16 = .ok (.iload_n 3, 1) := dk_29 (dk_at dksX3_heatOf_0 16 rfl rfl)
theorem dX3_heatOf_17 : decode cX3_heatOf 17 = .ok (.iaload, 1) := dk_46 (dk_at dksX3_heatOf_0 17 rfl rfl)
theorem dX3_heatOf_18 : decode cX3_heatOf 18 = .ok (.iconst 3, 1) := dk_6 (dk_at dksX3_heatOf_0 18 rfl rfl)
theorem dX3_heatOf_19 : decode cX3_heatOf 19 = .ok (.if_icmp .eq 26, 3) := dk_159 0 26 (dk_at dksX3_heatOf_0 19 rfl rfl)
theorem dX3_heatOf_22 : decode cX3_heatOf 22 = .ok (.iload_n 1, 1) := dk_27 (dk_at dksX3_heatOf_0 22 rfl rfl)
theorem dX3_heatOf_23 : decode cX3_heatOf 23 = .ok (.aload_n 0, 1) := dk_42 (dk_at dksX3_heatOf_0 23 rfl rfl)
theorem dX3_heatOf_24 : decode cX3_heatOf 24 = .ok (.getfield 57, 3) := dk_180 0 57 (dk_at dksX3_heatOf_1 0 rfl rfl)
theorem dX3_heatOf_27 : decode cX3_heatOf 27 = .ok (.iload_n 3, 1) := dk_29 (dk_at dksX3_heatOf_1 3 rfl rfl)
theorem dX3_heatOf_28 : decode cX3_heatOf 28 = .ok (.iaload, 1) := dk_46 (dk_at dksX3_heatOf_1 4 rfl rfl)
theorem dX3_heatOf_29 : decode cX3_heatOf 29 = .ok (.aload_n 0, 1) := dk_42 (dk_at dksX3_heatOf_1 5 rfl rfl)
theorem dX3_heatOf_30 : decode cX3_heatOf 30 = .ok (.getfield 60, 3) := dk_180 0 60 (dk_at dksX3_heatOf_1 6 rfl rfl)
theorem dX3_heatOf_33 : decode cX3_heatOf 33 = .ok (.iload_n 3, 1) := dk_29 (dk_at dksX3_heatOf_1 9 rfl rfl)
theorem dX3_heatOf_34 : decode cX3_heatOf 34 = .ok (.iaload, 1) := dk_46 (dk_at dksX3_heatOf_1 10 rfl rfl)
theorem dX3_heatOf_35 : decode cX3_heatOf 35 = .ok (.invokestatic 111, 3) := dk_184 0 111 (dk_at dksX3_heatOf_1 11 rfl rfl)
theorem dX3_heatOf_38 : decode cX3_heatOf 38 = .ok (.ifCond .eq 7, 3) := dk_153 0 7 (dk_at dksX3_heatOf_1 14 rfl rfl)
theorem dX3_heatOf_41 : decode cX3_heatOf 41 = .ok (.iconst 1, 1) := dk_4 (dk_at dksX3_heatOf_1 17 rfl rfl)
theorem dX3_heatOf_42 : decode cX3_heatOf 42 = .ok (.goto 4, 3) := dk_167 0 4 (dk_at dksX3_heatOf_1 18 rfl rfl)
theorem dX3_heatOf_45 : decode cX3_heatOf 45 = .ok (.iconst 0, 1) := dk_3 (dk_at dksX3_heatOf_1 21 rfl rfl)
theorem dX3_heatOf_46 : decode cX3_heatOf 46 = .ok (.istore 4, 2) := dk_54 4 (dk_at dksX3_heatOf_1 22 rfl rfl)
theorem dX3_heatOf_48 : decode cX3_heatOf 48 = .ok (.iload_n 2, 1) := dk_28 (dk_at dksX3_heatOf_2 0 rfl rfl)
theorem dX3_heatOf_49 : decode cX3_heatOf 49 = .ok (.iload 4, 2) := dk_21 4 (dk_at dksX3_heatOf_2 1 rfl rfl)
theorem dX3_heatOf_51 : decode cX3_heatOf 51 = .ok (.ifCond .eq 14, 3) := dk_153 0 14 (dk_at dksX3_heatOf_2 3 rfl rfl)
theorem dX3_heatOf_54 : decode cX3_heatOf 54 = .ok (.iconst 1, 1) := dk_4 (dk_at dksX3_heatOf_2 6 rfl rfl)
theorem dX3_heatOf_55 : decode cX3_heatOf 55 = .ok (.aload_n 0, 1) := dk_42 (dk_at dksX3_heatOf_2 7 rfl rfl)
theorem dX3_heatOf_56 : decode cX3_heatOf 56 = .ok (.iload_n 3, 1) := dk_29 (dk_at dksX3_heatOf_2 8 rfl rfl)
theorem dX3_heatOf_57 : decode cX3_heatOf 57 = .ok (.iconst 0, 1) := dk_3 (dk_at dksX3_heatOf_2 9 rfl rfl)
theorem dX3_heatOf_58 : decode cX3_heatOf 58 = .ok (.invokevirtual 205, 3) := dk_182 0 205 (dk_at dksX3_heatOf_2 10 rfl rfl)
theorem dX3_heatOf_61 : decode cX3_heatOf 61 = .ok (.ishl, 1) := dk_120 (dk_at dksX3_heatOf_2 13 rfl rfl)
theorem dX3_heatOf_62 : decode cX3_heatOf 62 = .ok (.goto 4, 3) := dk_167 0 4 (dk_at dksX3_heatOf_2 14 rfl rfl)
theorem dX3_heatOf_65 : decode cX3_heatOf 65 = .ok (.iconst 0, 1) := dk_3 (dk_at dksX3_heatOf_2 17 rfl rfl)
theorem dX3_heatOf_66 : decode cX3_heatOf 66 = .ok (.ior, 1) := dk_128 (dk_at dksX3_heatOf_2 18 rfl rfl)
theorem dX3_heatOf_67 : decode cX3_heatOf 67 = .ok (.istore_n 2, 1) := dk_61 (dk_at dksX3_heatOf_2 19 rfl rfl)
theorem dX3_heatOf_68 : decode cX3_heatOf 68 = .ok (.iinc 3 1, 3) := dk_132 3 1 (dk_at dksX3_heatOf_2 20 rfl rfl)
theorem dX3_heatOf_71 : decode cX3_heatOf 71 = .ok (.goto (-67), 3) := dk_167 255 189 (dk_at dksX3_heatOf_3 0 rfl rfl)
theorem dX3_heatOf_74 : decode cX3_heatOf 74 = .ok (.iload_n 2, 1) := dk_28 (dk_at dksX3_heatOf_3 3 rfl rfl)
theorem dX3_heatOf_75 : decode cX3_heatOf 75 = .ok (.invokestatic 294, 3) := dk_184 1 38 (dk_at dksX3_heatOf_3 4 rfl rfl)
theorem dX3_heatOf_78 : decode cX3_heatOf 78 = .ok (.ireturn, 1) := dk_172 (dk_at dksX3_heatOf_3 7 rfl rfl)
abbrev cX3_hottestPage : ByteArray := prog_16_method_87_code
def yX3_hottestPage : MethodName := ⟨RX3, "hottestPage", "()I"⟩
def dkwX3_hottestPage_4 : List UInt8 := [61, 42, 21, 4, 182, 1, 47, 60, 132, 4, 1, 167, 255, 189, 27, 172]
abbrev dktX3_hottestPage_4 : List UInt8 := dkwX3_hottestPage_4 ++ []
def dkwX3_hottestPage_3 : List UInt8 := [159, 0, 7, 3, 167, 0, 4, 29, 62, 29, 42, 21, 4, 182, 1, 44, 96, 62, 29, 28, 164, 0, 12, 29]
abbrev dktX3_hottestPage_3 : List UInt8 := dkwX3_hottestPage_3 ++ dktX3_hottestPage_4
def dkwX3_hottestPage_2 : List UInt8 := [162, 0, 60, 21, 4, 158, 0, 24, 42, 21, 4, 182, 1, 47, 42, 21, 4, 4, 100, 182, 1, 47]
abbrev dktX3_hottestPage_2 : List UInt8 := dkwX3_hottestPage_2 ++ dktX3_hottestPage_3
def dkwX3_hottestPage_1 : List UInt8 := [182, 0, 191, 3, 60, 3, 61, 3, 62, 3, 54, 4, 21, 4, 42, 42, 182, 0, 164, 182, 0, 119]
abbrev dktX3_hottestPage_1 : List UInt8 := dkwX3_hottestPage_1 ++ dktX3_hottestPage_2
def dkwX3_hottestPage_0 : List UInt8 := [42, 3, 181, 0, 100, 42, 182, 0, 107, 154, 0, 5, 2, 172, 42, 182, 1, 6, 42, 42, 182, 0, 164]
abbrev dktX3_hottestPage_0 : List UInt8 := dkwX3_hottestPage_0 ++ dktX3_hottestPage_1
theorem dksX3_hottestPage_0 : cX3_hottestPage.data.toList.drop 0 = dktX3_hottestPage_0 := by decide +kernel
theorem dksX3_hottestPage_1 : cX3_hottestPage.data.toList.drop 23 = dktX3_hottestPage_1 := dk_seg dksX3_hottestPage_0 23 rfl rfl
theorem dksX3_hottestPage_2 : cX3_hottestPage.data.toList.drop 45 = dktX3_hottestPage_2 := dk_seg dksX3_hottestPage_1 22 rfl rfl
theorem dksX3_hottestPage_3 : cX3_hottestPage.data.toList.drop 67 = dktX3_hottestPage_3 := dk_seg dksX3_hottestPage_2 22 rfl rfl
theorem dksX3_hottestPage_4 : cX3_hottestPage.data.toList.drop 91 = dktX3_hottestPage_4 := dk_seg dksX3_hottestPage_3 24 rfl rfl
theorem dX3_hottestPage_0 : decode cX3_hottestPage 0 = .ok (.aload_n 0, 1) := dk_42 (dk_at dksX3_hottestPage_0 0 rfl rfl)
theorem dX3_hottestPage_1 : decode cX3_hottestPage 1 = .ok (.iconst 0, 1) := dk_3 (dk_at dksX3_hottestPage_0 1 rfl rfl)
theorem dX3_hottestPage_2 : decode cX3_hottestPage 2 = .ok (.putfield 100, 3) := dk_181 0 100 (dk_at dksX3_hottestPage_0 2 rfl rfl)
theorem dX3_hottestPage_5 : decode cX3_hottestPage 5 = .ok (.aload_n 0, 1) := dk_42 (dk_at dksX3_hottestPage_0 5 rfl rfl)
theorem dX3_hottestPage_6 : decode cX3_hottestPage 6 = .ok (.invokevirtual 107, 3) := dk_182 0 107 (dk_at dksX3_hottestPage_0 6 rfl rfl)
theorem dX3_hottestPage_9 : decode cX3_hottestPage 9 = .ok (.ifCond .ne 5, 3) := dk_154 0 5 (dk_at dksX3_hottestPage_0 9 rfl rfl)
theorem dX3_hottestPage_12 : decode cX3_hottestPage 12 = .ok (.iconst (-1), 1) := dk_2 (dk_at dksX3_hottestPage_0 12 rfl rfl)
theorem dX3_hottestPage_13 : decode cX3_hottestPage 13 = .ok (.ireturn, 1) := dk_172 (dk_at dksX3_hottestPage_0 13 rfl rfl)
theorem dX3_hottestPage_14 : decode cX3_hottestPage 14 = .ok (.aload_n 0, 1) := dk_42 (dk_at dksX3_hottestPage_0 14 rfl rfl)
theorem dX3_hottestPage_15 : decode cX3_hottestPage 15 = .ok (.invokevirtual 262, 3) := dk_182 1 6 (dk_at dksX3_hottestPage_0 15 rfl rfl)
theorem dX3_hottestPage_18 : decode cX3_hottestPage 18 = .ok (.aload_n 0, 1) := dk_42 (dk_at dksX3_hottestPage_0 18 rfl rfl)
theorem dX3_hottestPage_19 : decode cX3_hottestPage 19 = .ok (.aload_n 0, 1) := dk_42 (dk_at dksX3_hottestPage_0 19 rfl rfl)
theorem dX3_hottestPage_20 : decode cX3_hottestPage 20 = .ok (.invokevirtual 164, 3) := dk_182 0 164 (dk_at dksX3_hottestPage_0 20 rfl rfl)
theorem dX3_hottestPage_23 : decode cX3_hottestPage 23 = .ok (.invokevirtual 191, 3) := dk_182 0 191 (dk_at dksX3_hottestPage_1 0 rfl rfl)
theorem dX3_hottestPage_26 : decode cX3_hottestPage 26 = .ok (.iconst 0, 1) := dk_3 (dk_at dksX3_hottestPage_1 3 rfl rfl)
theorem dX3_hottestPage_27 : decode cX3_hottestPage 27 = .ok (.istore_n 1, 1) := dk_60 (dk_at dksX3_hottestPage_1 4 rfl rfl)
theorem dX3_hottestPage_28 : decode cX3_hottestPage 28 = .ok (.iconst 0, 1) := dk_3 (dk_at dksX3_hottestPage_1 5 rfl rfl)
theorem dX3_hottestPage_29 : decode cX3_hottestPage 29 = .ok (.istore_n 2, 1) := dk_61 (dk_at dksX3_hottestPage_1 6 rfl rfl)
theorem dX3_hottestPage_30 : decode cX3_hottestPage 30 = .ok (.iconst 0, 1) := dk_3 (dk_at dksX3_hottestPage_1 7 rfl rfl)
theorem dX3_hottestPage_31 : decode cX3_hottestPage 31 = .ok (.istore_n 3, 1) := dk_62 (dk_at dksX3_hottestPage_1 8 rfl rfl)
theorem dX3_hottestPage_32 : decode cX3_hottestPage 32 = .ok (.iconst 0, 1) := dk_3 (dk_at dksX3_hottestPage_1 9 rfl rfl)
theorem dX3_hottestPage_33 : decode cX3_hottestPage 33 = .ok (.istore 4, 2) := dk_54 4 (dk_at dksX3_hottestPage_1 10 rfl rfl)
theorem dX3_hottestPage_35 : decode cX3_hottestPage 35 = .ok (.iload 4, 2) := dk_21 4 (dk_at dksX3_hottestPage_1 12 rfl rfl)
theorem dX3_hottestPage_37 : decode cX3_hottestPage 37 = .ok (.aload_n 0, 1) := dk_42 (dk_at dksX3_hottestPage_1 14 rfl rfl)
theorem dX3_hottestPage_38 : decode cX3_hottestPage 38 = .ok (.aload_n 0, 1) := dk_42 (dk_at dksX3_hottestPage_1 15 rfl rfl)
theorem dX3_hottestPage_39 : decode cX3_hottestPage 39 = .ok (.invokevirtual 164, 3) := dk_182 0 164 (dk_at dksX3_hottestPage_1 16 rfl rfl)
theorem dX3_hottestPage_42 : decode cX3_hottestPage 42 = .ok (.invokevirtual 119, 3) := dk_182 0 119 (dk_at dksX3_hottestPage_1 19 rfl rfl)
theorem dX3_hottestPage_45 : decode cX3_hottestPage 45 = .ok (.if_icmp .ge 60, 3) := dk_162 0 60 (dk_at dksX3_hottestPage_2 0 rfl rfl)
theorem dX3_hottestPage_48 : decode cX3_hottestPage 48 = .ok (.iload 4, 2) := dk_21 4 (dk_at dksX3_hottestPage_2 3 rfl rfl)
theorem dX3_hottestPage_50 : decode cX3_hottestPage 50 = .ok (.ifCond .le 24, 3) := dk_158 0 24 (dk_at dksX3_hottestPage_2 5 rfl rfl)
theorem dX3_hottestPage_53 : decode cX3_hottestPage 53 = .ok (.aload_n 0, 1) := dk_42 (dk_at dksX3_hottestPage_2 8 rfl rfl)
theorem dX3_hottestPage_54 : decode cX3_hottestPage 54 = .ok (.iload 4, 2) := dk_21 4 (dk_at dksX3_hottestPage_2 9 rfl rfl)
theorem dX3_hottestPage_56 : decode cX3_hottestPage 56 = .ok (.invokevirtual 303, 3) := dk_182 1 47 (dk_at dksX3_hottestPage_2 11 rfl rfl)
theorem dX3_hottestPage_59 : decode cX3_hottestPage 59 = .ok (.aload_n 0, 1) := dk_42 (dk_at dksX3_hottestPage_2 14 rfl rfl)
theorem dX3_hottestPage_60 : decode cX3_hottestPage 60 = .ok (.iload 4, 2) := dk_21 4 (dk_at dksX3_hottestPage_2 15 rfl rfl)
theorem dX3_hottestPage_62 : decode cX3_hottestPage 62 = .ok (.iconst 1, 1) := dk_4 (dk_at dksX3_hottestPage_2 17 rfl rfl)
theorem dX3_hottestPage_63 : decode cX3_hottestPage 63 = .ok (.isub, 1) := dk_100 (dk_at dksX3_hottestPage_2 18 rfl rfl)
theorem dX3_hottestPage_64 : decode cX3_hottestPage 64 = .ok (.invokevirtual 303, 3) := dk_182 1 47 (dk_at dksX3_hottestPage_2 19 rfl rfl)
theorem dX3_hottestPage_67 : decode cX3_hottestPage 67 = .ok (.if_icmp .eq 7, 3) := dk_159 0 7 (dk_at dksX3_hottestPage_3 0 rfl rfl)
theorem dX3_hottestPage_70 : decode cX3_hottestPage 70 = .ok (.iconst 0, 1) := dk_3 (dk_at dksX3_hottestPage_3 3 rfl rfl)
theorem dX3_hottestPage_71 : decode cX3_hottestPage 71 = .ok (.goto 4, 3) := dk_167 0 4 (dk_at dksX3_hottestPage_3 4 rfl rfl)
theorem dX3_hottestPage_74 : decode cX3_hottestPage 74 = .ok (.iload_n 3, 1) := dk_29 (dk_at dksX3_hottestPage_3 7 rfl rfl)
theorem dX3_hottestPage_75 : decode cX3_hottestPage 75 = .ok (.istore_n 3, 1) := dk_62 (dk_at dksX3_hottestPage_3 8 rfl rfl)
theorem dX3_hottestPage_76 : decode cX3_hottestPage 76 = .ok (.iload_n 3, 1) := dk_29 (dk_at dksX3_hottestPage_3 9 rfl rfl)
theorem dX3_hottestPage_77 : decode cX3_hottestPage 77 = .ok (.aload_n 0, 1) := dk_42 (dk_at dksX3_hottestPage_3 10 rfl rfl)
theorem dX3_hottestPage_78 : decode cX3_hottestPage 78 = .ok (.iload 4, 2) := dk_21 4 (dk_at dksX3_hottestPage_3 11 rfl rfl)
theorem dX3_hottestPage_80 : decode cX3_hottestPage 80 = .ok (.invokevirtual 300, 3) := dk_182 1 44 (dk_at dksX3_hottestPage_3 13 rfl rfl)
theorem dX3_hottestPage_83 : decode cX3_hottestPage 83 = .ok (.iadd, 1) := dk_96 (dk_at dksX3_hottestPage_3 16 rfl rfl)
theorem dX3_hottestPage_84 : decode cX3_hottestPage 84 = .ok (.istore_n 3, 1) := dk_62 (dk_at dksX3_hottestPage_3 17 rfl rfl)
theorem dX3_hottestPage_85 : decode cX3_hottestPage 85 = .ok (.iload_n 3, 1) := dk_29 (dk_at dksX3_hottestPage_3 18 rfl rfl)
theorem dX3_hottestPage_86 : decode cX3_hottestPage 86 = .ok (.iload_n 2, 1) := dk_28 (dk_at dksX3_hottestPage_3 19 rfl rfl)
theorem dX3_hottestPage_87 : decode cX3_hottestPage 87 = .ok (.if_icmp .le 12, 3) := dk_164 0 12 (dk_at dksX3_hottestPage_3 20 rfl rfl)
theorem dX3_hottestPage_90 : decode cX3_hottestPage 90 = .ok (.iload_n 3, 1) := dk_29 (dk_at dksX3_hottestPage_3 23 rfl rfl)
theorem dX3_hottestPage_91 : decode cX3_hottestPage 91 = .ok (.istore_n 2, 1) := dk_61 (dk_at dksX3_hottestPage_4 0 rfl rfl)
theorem dX3_hottestPage_92 : decode cX3_hottestPage 92 = .ok (.aload_n 0, 1) := dk_42 (dk_at dksX3_hottestPage_4 1 rfl rfl)
theorem dX3_hottestPage_93 : decode cX3_hottestPage 93 = .ok (.iload 4, 2) := dk_21 4 (dk_at dksX3_hottestPage_4 2 rfl rfl)
theorem dX3_hottestPage_95 : decode cX3_hottestPage 95 = .ok (.invokevirtual 303, 3) := dk_182 1 47 (dk_at dksX3_hottestPage_4 4 rfl rfl)
theorem dX3_hottestPage_98 : decode cX3_hottestPage 98 = .ok (.istore_n 1, 1) := dk_60 (dk_at dksX3_hottestPage_4 7 rfl rfl)
theorem dX3_hottestPage_99 : decode cX3_hottestPage 99 = .ok (.iinc 4 1, 3) := dk_132 4 1 (dk_at dksX3_hottestPage_4 8 rfl rfl)
theorem dX3_hottestPage_102 : decode cX3_hottestPage 102 = .ok (.goto (-67), 3) := dk_167 255 189 (dk_at dksX3_hottestPage_4 11 rfl rfl)
theorem dX3_hottestPage_105 : decode cX3_hottestPage 105 = .ok (.iload_n 1, 1) := dk_27 (dk_at dksX3_hottestPage_4 14 rfl rfl)
theorem dX3_hottestPage_106 : decode cX3_hottestPage 106 = .ok (.ireturn, 1) := dk_172 (dk_at dksX3_hottestPage_4 15 rfl rfl)
abbrev cX3_targetPageOf : ByteArray := prog_16_method_86_code
def yX3_targetPageOf : MethodName := ⟨RX3, "targetPageOf", "(I)I"⟩
def dkwX3_targetPageOf_0 : List UInt8 := [42, 180, 0, 39, 27, 46, 42, 42, 182, 0, 164, 5, 182, 0, 103, 108, 172]
abbrev dktX3_targetPageOf_0 : List UInt8 := dkwX3_targetPageOf_0 ++ []
theorem dksX3_targetPageOf_0 : cX3_targetPageOf.data.toList.drop 0 = dktX3_targetPageOf_0 := by decide +kernel
theorem dX3_targetPageOf_0 : decode cX3_targetPageOf 0 = .ok (.aload_n 0, 1) := dk_42 (dk_at dksX3_targetPageOf_0 0 rfl rfl)
theorem dX3_targetPageOf_1 : decode cX3_targetPageOf 1 = .ok (.getfield 39, 3) := dk_180 0 39 (dk_at dksX3_targetPageOf_0 1 rfl rfl)
theorem dX3_targetPageOf_4 : decode cX3_targetPageOf 4 = .ok (.iload_n 1, 1) := dk_27 (dk_at dksX3_targetPageOf_0 4 rfl rfl)
theorem dX3_targetPageOf_5 : decode cX3_targetPageOf 5 = .ok (.iaload, 1) := dk_46 (dk_at dksX3_targetPageOf_0 5 rfl rfl)
theorem dX3_targetPageOf_6 : decode cX3_targetPageOf 6 = .ok (.aload_n 0, 1) := dk_42 (dk_at dksX3_targetPageOf_0 6 rfl rfl)
theorem dX3_targetPageOf_7 : decode cX3_targetPageOf 7 = .ok (.aload_n 0, 1) := dk_42 (dk_at dksX3_targetPageOf_0 7 rfl rfl)
theorem dX3_targetPageOf_8 : decode cX3_targetPageOf 8 = .ok (.invokevirtual 164, 3) := dk_182 0 164 (dk_at dksX3_targetPageOf_0 8 rfl rfl)
theorem dX3_targetPageOf_11 : decode cX3_targetPageOf 11 = .ok (.iconst 2, 1) := dk_5 (dk_at dksX3_targetPageOf_0 11 rfl rfl)
theorem dX3_targetPageOf_12 : decode cX3_targetPageOf 12 = .ok (.invokevirtual 103, 3) := dk_182 0 103 (dk_at dksX3_targetPageOf_0 12 rfl rfl)
theorem dX3_targetPageOf_15 : decode cX3_targetPageOf 15 = .ok (.idiv, 1) := dk_108 (dk_at dksX3_targetPageOf_0 15 rfl rfl)
theorem dX3_targetPageOf_16 : decode cX3_targetPageOf 16 = .ok (.ireturn, 1) := dk_172 (dk_at dksX3_targetPageOf_0 16 rfl rfl)
abbrev cX3_marginGroups : ByteArray := prog_16_method_93_code
def yX3_marginGroups : MethodName := ⟨RX3, "marginGroups", "(I)I"⟩
def dkwX3_marginGroups_1 : List UInt8 := [182, 1, 65, 154, 0, 9, 42, 4, 182, 0, 141, 172, 42, 27, 182, 1, 68, 42, 180, 1, 56, 172]
abbrev dktX3_marginGroups_1 : List UInt8 := dkwX3_marginGroups_1 ++ []
def dkwX3_marginGroups_0 : List UInt8 := [42, 3, 181, 0, 100, 42, 182, 0, 107, 154, 0, 9, 42, 4, 182, 0, 141, 172, 42, 182, 1, 62, 42, 27]
abbrev dktX3_marginGroups_0 : List UInt8 := dkwX3_marginGroups_0 ++ dktX3_marginGroups_1
theorem dksX3_marginGroups_0 : cX3_marginGroups.data.toList.drop 0 = dktX3_marginGroups_0 := by decide +kernel
theorem dksX3_marginGroups_1 : cX3_marginGroups.data.toList.drop 24 = dktX3_marginGroups_1 := dk_seg dksX3_marginGroups_0 24 rfl rfl
theorem dX3_marginGroups_0 : decode cX3_marginGroups 0 = .ok (.aload_n 0, 1) := dk_42 (dk_at dksX3_marginGroups_0 0 rfl rfl)
theorem dX3_marginGroups_1 : decode cX3_marginGroups 1 = .ok (.iconst 0, 1) := dk_3 (dk_at dksX3_marginGroups_0 1 rfl rfl)
theorem dX3_marginGroups_2 : decode cX3_marginGroups 2 = .ok (.putfield 100, 3) := dk_181 0 100 (dk_at dksX3_marginGroups_0 2 rfl rfl)
theorem dX3_marginGroups_5 : decode cX3_marginGroups 5 = .ok (.aload_n 0, 1) := dk_42 (dk_at dksX3_marginGroups_0 5 rfl rfl)
theorem dX3_marginGroups_6 : decode cX3_marginGroups 6 = .ok (.invokevirtual 107, 3) := dk_182 0 107 (dk_at dksX3_marginGroups_0 6 rfl rfl)
theorem dX3_marginGroups_9 : decode cX3_marginGroups 9 = .ok (.ifCond .ne 9, 3) := dk_154 0 9 (dk_at dksX3_marginGroups_0 9 rfl rfl)
theorem dX3_marginGroups_12 : decode cX3_marginGroups 12 = .ok (.aload_n 0, 1) := dk_42 (dk_at dksX3_marginGroups_0 12 rfl rfl)
theorem dX3_marginGroups_13 : decode cX3_marginGroups 13 = .ok (.iconst 1, 1) := dk_4 (dk_at dksX3_marginGroups_0 13 rfl rfl)
theorem dX3_marginGroups_14 : decode cX3_marginGroups 14 = .ok (.invokevirtual 141, 3) := dk_182 0 141 (dk_at dksX3_marginGroups_0 14 rfl rfl)
theorem dX3_marginGroups_17 : decode cX3_marginGroups 17 = .ok (.ireturn, 1) := dk_172 (dk_at dksX3_marginGroups_0 17 rfl rfl)
theorem dX3_marginGroups_18 : decode cX3_marginGroups 18 = .ok (.aload_n 0, 1) := dk_42 (dk_at dksX3_marginGroups_0 18 rfl rfl)
theorem dX3_marginGroups_19 : decode cX3_marginGroups 19 = .ok (.invokevirtual 318, 3) := dk_182 1 62 (dk_at dksX3_marginGroups_0 19 rfl rfl)
theorem dX3_marginGroups_22 : decode cX3_marginGroups 22 = .ok (.aload_n 0, 1) := dk_42 (dk_at dksX3_marginGroups_0 22 rfl rfl)
theorem dX3_marginGroups_23 : decode cX3_marginGroups 23 = .ok (.iload_n 1, 1) := dk_27 (dk_at dksX3_marginGroups_0 23 rfl rfl)
theorem dX3_marginGroups_24 : decode cX3_marginGroups 24 = .ok (.invokevirtual 321, 3) := dk_182 1 65 (dk_at dksX3_marginGroups_1 0 rfl rfl)
theorem dX3_marginGroups_27 : decode cX3_marginGroups 27 = .ok (.ifCond .ne 9, 3) := dk_154 0 9 (dk_at dksX3_marginGroups_1 3 rfl rfl)
theorem dX3_marginGroups_30 : decode cX3_marginGroups 30 = .ok (.aload_n 0, 1) := dk_42 (dk_at dksX3_marginGroups_1 6 rfl rfl)
theorem dX3_marginGroups_31 : decode cX3_marginGroups 31 = .ok (.iconst 1, 1) := dk_4 (dk_at dksX3_marginGroups_1 7 rfl rfl)
theorem dX3_marginGroups_32 : decode cX3_marginGroups 32 = .ok (.invokevirtual 141, 3) := dk_182 0 141 (dk_at dksX3_marginGroups_1 8 rfl rfl)
theorem dX3_marginGroups_35 : decode cX3_marginGroups 35 = .ok (.ireturn, 1) := dk_172 (dk_at dksX3_marginGroups_1 11 rfl rfl)
theorem dX3_marginGroups_36 : decode cX3_marginGroups 36 = .ok (.aload_n 0, 1) := dk_42 (dk_at dksX3_marginGroups_1 12 rfl rfl)
theorem dX3_marginGroups_37 : decode cX3_marginGroups 37 = .ok (.iload_n 1, 1) := dk_27 (dk_at dksX3_marginGroups_1 13 rfl rfl)
theorem dX3_marginGroups_38 : decode cX3_marginGroups 38 = .ok (.invokevirtual 324, 3) := dk_182 1 68 (dk_at dksX3_marginGroups_1 14 rfl rfl)
theorem dX3_marginGroups_41 : decode cX3_marginGroups 41 = .ok (.aload_n 0, 1) := dk_42 (dk_at dksX3_marginGroups_1 17 rfl rfl)
theorem dX3_marginGroups_42 : decode cX3_marginGroups 42 = .ok (.getfield 312, 3) := dk_180 1 56 (dk_at dksX3_marginGroups_1 18 rfl rfl)
theorem dX3_marginGroups_45 : decode cX3_marginGroups 45 = .ok (.ireturn, 1) := dk_172 (dk_at dksX3_marginGroups_1 21 rfl rfl)
abbrev cX3_layMargins : ByteArray := prog_16_method_91_code
def yX3_layMargins : MethodName := ⟨RX3, "layMargins", "()V"⟩
def dkwX3_layMargins_0 : List UInt8 := [42, 182, 0, 158, 42, 42, 182, 0, 164, 182, 0, 191, 177]
abbrev dktX3_layMargins_0 : List UInt8 := dkwX3_layMargins_0 ++ []
theorem dksX3_layMargins_0 : cX3_layMargins.data.toList.drop 0 = dktX3_layMargins_0 := by decide +kernel
theorem dX3_layMargins_0 : decode cX3_layMargins 0 = .ok (.aload_n 0, 1) := dk_42 (dk_at dksX3_layMargins_0 0 rfl rfl)
theorem dX3_layMargins_1 : decode cX3_layMargins 1 = .ok (.invokevirtual 158, 3) := dk_182 0 158 (dk_at dksX3_layMargins_0 1 rfl rfl)
theorem dX3_layMargins_4 : decode cX3_layMargins 4 = .ok (.aload_n 0, 1) := dk_42 (dk_at dksX3_layMargins_0 4 rfl rfl)
theorem dX3_layMargins_5 : decode cX3_layMargins 5 = .ok (.aload_n 0, 1) := dk_42 (dk_at dksX3_layMargins_0 5 rfl rfl)
theorem dX3_layMargins_6 : decode cX3_layMargins 6 = .ok (.invokevirtual 164, 3) := dk_182 0 164 (dk_at dksX3_layMargins_0 6 rfl rfl)
theorem dX3_layMargins_9 : decode cX3_layMargins 9 = .ok (.invokevirtual 191, 3) := dk_182 0 191 (dk_at dksX3_layMargins_0 9 rfl rfl)
theorem dX3_layMargins_12 : decode cX3_layMargins 12 = .ok (.return_, 1) := dk_177 (dk_at dksX3_layMargins_0 12 rfl rfl)
abbrev cX3_isTargetPage : ByteArray := prog_16_method_92_code
def yX3_isTargetPage : MethodName := ⟨RX3, "isTargetPage", "(I)Z"⟩
def dkwX3_isTargetPage_0 : List UInt8 := [27, 3, 42, 42, 182, 0, 164, 182, 0, 195, 4, 100, 184, 0, 111, 172]
abbrev dktX3_isTargetPage_0 : List UInt8 := dkwX3_isTargetPage_0 ++ []
theorem dksX3_isTargetPage_0 : cX3_isTargetPage.data.toList.drop 0 = dktX3_isTargetPage_0 := by decide +kernel
theorem dX3_isTargetPage_0 : decode cX3_isTargetPage 0 = .ok (.iload_n 1, 1) := dk_27 (dk_at dksX3_isTargetPage_0 0 rfl rfl)
theorem dX3_isTargetPage_1 : decode cX3_isTargetPage 1 = .ok (.iconst 0, 1) := dk_3 (dk_at dksX3_isTargetPage_0 1 rfl rfl)
theorem dX3_isTargetPage_2 : decode cX3_isTargetPage 2 = .ok (.aload_n 0, 1) := dk_42 (dk_at dksX3_isTargetPage_0 2 rfl rfl)
theorem dX3_isTargetPage_3 : decode cX3_isTargetPage 3 = .ok (.aload_n 0, 1) := dk_42 (dk_at dksX3_isTargetPage_0 3 rfl rfl)
theorem dX3_isTargetPage_4 : decode cX3_isTargetPage 4 = .ok (.invokevirtual 164, 3) := dk_182 0 164 (dk_at dksX3_isTargetPage_0 4 rfl rfl)
theorem dX3_isTargetPage_7 : decode cX3_isTargetPage 7 = .ok (.invokevirtual 195, 3) := dk_182 0 195 (dk_at dksX3_isTargetPage_0 7 rfl rfl)
theorem dX3_isTargetPage_10 : decode cX3_isTargetPage 10 = .ok (.iconst 1, 1) := dk_4 (dk_at dksX3_isTargetPage_0 10 rfl rfl)
theorem dX3_isTargetPage_11 : decode cX3_isTargetPage 11 = .ok (.isub, 1) := dk_100 (dk_at dksX3_isTargetPage_0 11 rfl rfl)
theorem dX3_isTargetPage_12 : decode cX3_isTargetPage 12 = .ok (.invokestatic 111, 3) := dk_184 0 111 (dk_at dksX3_isTargetPage_0 12 rfl rfl)
theorem dX3_isTargetPage_15 : decode cX3_isTargetPage 15 = .ok (.ireturn, 1) := dk_172 (dk_at dksX3_isTargetPage_0 15 rfl rfl)
abbrev cX3_layMargin : ByteArray := prog_16_method_90_code
def yX3_layMargin : MethodName := ⟨RX3, "layMargin", "(I)V"⟩
def dkwX3_layMargin_4 : List UInt8 := [28, 182, 1, 59, 132, 3, 1, 167, 255, 202, 132, 2, 1, 167, 255, 181, 177]
abbrev dktX3_layMargin_4 : List UInt8 := dkwX3_layMargin_4 ++ []
def dkwX3_layMargin_3 : List UInt8 := [180, 0, 39, 21, 4, 46, 42, 42, 182, 0, 164, 5, 182, 0, 103, 27, 104, 28, 96, 160, 0, 9, 42, 29]
abbrev dktX3_layMargin_3 : List UInt8 := dkwX3_layMargin_3 ++ dktX3_layMargin_4
def dkwX3_layMargin_2 : List UInt8 := [62, 29, 42, 180, 0, 161, 162, 0, 52, 42, 180, 0, 69, 29, 46, 54, 4, 21, 4, 2, 159, 0, 32, 42]
abbrev dktX3_layMargin_2 : List UInt8 := dkwX3_layMargin_2 ++ dktX3_layMargin_3
def dkwX3_layMargin_1 : List UInt8 := [181, 1, 56, 42, 3, 181, 1, 53, 3, 61, 28, 42, 42, 182, 0, 164, 5, 182, 0, 103, 162, 0, 68, 3]
abbrev dktX3_layMargin_1 : List UInt8 := dkwX3_layMargin_1 ++ dktX3_layMargin_2
def dkwX3_layMargin_0 : List UInt8 := [3, 61, 28, 16, 40, 162, 0, 16, 42, 180, 0, 90, 28, 2, 79, 132, 2, 1, 167, 255, 240, 42, 3]
abbrev dktX3_layMargin_0 : List UInt8 := dkwX3_layMargin_0 ++ dktX3_layMargin_1
theorem dksX3_layMargin_0 : cX3_layMargin.data.toList.drop 0 = dktX3_layMargin_0 := by decide +kernel
theorem dksX3_layMargin_1 : cX3_layMargin.data.toList.drop 23 = dktX3_layMargin_1 := dk_seg dksX3_layMargin_0 23 rfl rfl
theorem dksX3_layMargin_2 : cX3_layMargin.data.toList.drop 47 = dktX3_layMargin_2 := dk_seg dksX3_layMargin_1 24 rfl rfl
theorem dksX3_layMargin_3 : cX3_layMargin.data.toList.drop 71 = dktX3_layMargin_3 := dk_seg dksX3_layMargin_2 24 rfl rfl
theorem dksX3_layMargin_4 : cX3_layMargin.data.toList.drop 95 = dktX3_layMargin_4 := dk_seg dksX3_layMargin_3 24 rfl rfl
theorem dX3_layMargin_0 : decode cX3_layMargin 0 = .ok (.iconst 0, 1) := dk_3 (dk_at dksX3_layMargin_0 0 rfl rfl)
theorem dX3_layMargin_1 : decode cX3_layMargin 1 = .ok (.istore_n 2, 1) := dk_61 (dk_at dksX3_layMargin_0 1 rfl rfl)
theorem dX3_layMargin_2 : decode cX3_layMargin 2 = .ok (.iload_n 2, 1) := dk_28 (dk_at dksX3_layMargin_0 2 rfl rfl)
theorem dX3_layMargin_3 : decode cX3_layMargin 3 = .ok (.bipush 40, 2) := dk_16 40 (dk_at dksX3_layMargin_0 3 rfl rfl)
theorem dX3_layMargin_5 : decode cX3_layMargin 5 = .ok (.if_icmp .ge 16, 3) := dk_162 0 16 (dk_at dksX3_layMargin_0 5 rfl rfl)
theorem dX3_layMargin_8 : decode cX3_layMargin 8 = .ok (.aload_n 0, 1) := dk_42 (dk_at dksX3_layMargin_0 8 rfl rfl)
theorem dX3_layMargin_9 : decode cX3_layMargin 9 = .ok (.getfield 90, 3) := dk_180 0 90 (dk_at dksX3_layMargin_0 9 rfl rfl)
theorem dX3_layMargin_12 : decode cX3_layMargin 12 = .ok (.iload_n 2, 1) := dk_28 (dk_at dksX3_layMargin_0 12 rfl rfl)
theorem dX3_layMargin_13 : decode cX3_layMargin 13 = .ok (.iconst (-1), 1) := dk_2 (dk_at dksX3_layMargin_0 13 rfl rfl)
theorem dX3_layMargin_14 : decode cX3_layMargin 14 = .ok (.iastore, 1) := dk_79 (dk_at dksX3_layMargin_0 14 rfl rfl)
theorem dX3_layMargin_15 : decode cX3_layMargin 15 = .ok (.iinc 2 1, 3) := dk_132 2 1 (dk_at dksX3_layMargin_0 15 rfl rfl)
theorem dX3_layMargin_18 : decode cX3_layMargin 18 = .ok (.goto (-16), 3) := dk_167 255 240 (dk_at dksX3_layMargin_0 18 rfl rfl)
theorem dX3_layMargin_21 : decode cX3_layMargin 21 = .ok (.aload_n 0, 1) := dk_42 (dk_at dksX3_layMargin_0 21 rfl rfl)
theorem dX3_layMargin_22 : decode cX3_layMargin 22 = .ok (.iconst 0, 1) := dk_3 (dk_at dksX3_layMargin_0 22 rfl rfl)
theorem dX3_layMargin_23 : decode cX3_layMargin 23 = .ok (.putfield 312, 3) := dk_181 1 56 (dk_at dksX3_layMargin_1 0 rfl rfl)
theorem dX3_layMargin_26 : decode cX3_layMargin 26 = .ok (.aload_n 0, 1) := dk_42 (dk_at dksX3_layMargin_1 3 rfl rfl)
theorem dX3_layMargin_27 : decode cX3_layMargin 27 = .ok (.iconst 0, 1) := dk_3 (dk_at dksX3_layMargin_1 4 rfl rfl)
theorem dX3_layMargin_28 : decode cX3_layMargin 28 = .ok (.putfield 309, 3) := dk_181 1 53 (dk_at dksX3_layMargin_1 5 rfl rfl)
theorem dX3_layMargin_31 : decode cX3_layMargin 31 = .ok (.iconst 0, 1) := dk_3 (dk_at dksX3_layMargin_1 8 rfl rfl)
theorem dX3_layMargin_32 : decode cX3_layMargin 32 = .ok (.istore_n 2, 1) := dk_61 (dk_at dksX3_layMargin_1 9 rfl rfl)
theorem dX3_layMargin_33 : decode cX3_layMargin 33 = .ok (.iload_n 2, 1) := dk_28 (dk_at dksX3_layMargin_1 10 rfl rfl)
theorem dX3_layMargin_34 : decode cX3_layMargin 34 = .ok (.aload_n 0, 1) := dk_42 (dk_at dksX3_layMargin_1 11 rfl rfl)
theorem dX3_layMargin_35 : decode cX3_layMargin 35 = .ok (.aload_n 0, 1) := dk_42 (dk_at dksX3_layMargin_1 12 rfl rfl)
theorem dX3_layMargin_36 : decode cX3_layMargin 36 = .ok (.invokevirtual 164, 3) := dk_182 0 164 (dk_at dksX3_layMargin_1 13 rfl rfl)
theorem dX3_layMargin_39 : decode cX3_layMargin 39 = .ok (.iconst 2, 1) := dk_5 (dk_at dksX3_layMargin_1 16 rfl rfl)
theorem dX3_layMargin_40 : decode cX3_layMargin 40 = .ok (.invokevirtual 103, 3) := dk_182 0 103 (dk_at dksX3_layMargin_1 17 rfl rfl)
theorem dX3_layMargin_43 : decode cX3_layMargin 43 = .ok (.if_icmp .ge 68, 3) := dk_162 0 68 (dk_at dksX3_layMargin_1 20 rfl rfl)
theorem dX3_layMargin_46 : decode cX3_layMargin 46 = .ok (.iconst 0, 1) := dk_3 (dk_at dksX3_layMargin_1 23 rfl rfl)
theorem dX3_layMargin_47 : decode cX3_layMargin 47 = .ok (.istore_n 3, 1) := dk_62 (dk_at dksX3_layMargin_2 0 rfl rfl)
theorem dX3_layMargin_48 : decode cX3_layMargin 48 = .ok (.iload_n 3, 1) := dk_29 (dk_at dksX3_layMargin_2 1 rfl rfl)
theorem dX3_layMargin_49 : decode cX3_layMargin 49 = .ok (.aload_n 0, 1) := dk_42 (dk_at dksX3_layMargin_2 2 rfl rfl)
theorem dX3_layMargin_50 : decode cX3_layMargin 50 = .ok (.getfield 161, 3) := dk_180 0 161 (dk_at dksX3_layMargin_2 3 rfl rfl)
theorem dX3_layMargin_53 : decode cX3_layMargin 53 = .ok (.if_icmp .ge 52, 3) := dk_162 0 52 (dk_at dksX3_layMargin_2 6 rfl rfl)
theorem dX3_layMargin_56 : decode cX3_layMargin 56 = .ok (.aload_n 0, 1) := dk_42 (dk_at dksX3_layMargin_2 9 rfl rfl)
theorem dX3_layMargin_57 : decode cX3_layMargin 57 = .ok (.getfield 69, 3) := dk_180 0 69 (dk_at dksX3_layMargin_2 10 rfl rfl)
theorem dX3_layMargin_60 : decode cX3_layMargin 60 = .ok (.iload_n 3, 1) := dk_29 (dk_at dksX3_layMargin_2 13 rfl rfl)
theorem dX3_layMargin_61 : decode cX3_layMargin 61 = .ok (.iaload, 1) := dk_46 (dk_at dksX3_layMargin_2 14 rfl rfl)
theorem dX3_layMargin_62 : decode cX3_layMargin 62 = .ok (.istore 4, 2) := dk_54 4 (dk_at dksX3_layMargin_2 15 rfl rfl)
theorem dX3_layMargin_64 : decode cX3_layMargin 64 = .ok (.iload 4, 2) := dk_21 4 (dk_at dksX3_layMargin_2 17 rfl rfl)
theorem dX3_layMargin_66 : decode cX3_layMargin 66 = .ok (.iconst (-1), 1) := dk_2 (dk_at dksX3_layMargin_2 19 rfl rfl)
theorem dX3_layMargin_67 : decode cX3_layMargin 67 = .ok (.if_icmp .eq 32, 3) := dk_159 0 32 (dk_at dksX3_layMargin_2 20 rfl rfl)
theorem dX3_layMargin_70 : decode cX3_layMargin 70 = .ok (.aload_n 0, 1) := dk_42 (dk_at dksX3_layMargin_2 23 rfl rfl)
theorem dX3_layMargin_71 : decode cX3_layMargin 71 = .ok (.getfield 39, 3) := dk_180 0 39 (dk_at dksX3_layMargin_3 0 rfl rfl)
theorem dX3_layMargin_74 : decode cX3_layMargin 74 = .ok (.iload 4, 2) := dk_21 4 (dk_at dksX3_layMargin_3 3 rfl rfl)
theorem dX3_layMargin_76 : decode cX3_layMargin 76 = .ok (.iaload, 1) := dk_46 (dk_at dksX3_layMargin_3 5 rfl rfl)
theorem dX3_layMargin_77 : decode cX3_layMargin 77 = .ok (.aload_n 0, 1) := dk_42 (dk_at dksX3_layMargin_3 6 rfl rfl)
theorem dX3_layMargin_78 : decode cX3_layMargin 78 = .ok (.aload_n 0, 1) := dk_42 (dk_at dksX3_layMargin_3 7 rfl rfl)
theorem dX3_layMargin_79 : decode cX3_layMargin 79 = .ok (.invokevirtual 164, 3) := dk_182 0 164 (dk_at dksX3_layMargin_3 8 rfl rfl)
theorem dX3_layMargin_82 : decode cX3_layMargin 82 = .ok (.iconst 2, 1) := dk_5 (dk_at dksX3_layMargin_3 11 rfl rfl)
theorem dX3_layMargin_83 : decode cX3_layMargin 83 = .ok (.invokevirtual 103, 3) := dk_182 0 103 (dk_at dksX3_layMargin_3 12 rfl rfl)
theorem dX3_layMargin_86 : decode cX3_layMargin 86 = .ok (.iload_n 1, 1) := dk_27 (dk_at dksX3_layMargin_3 15 rfl rfl)
theorem dX3_layMargin_87 : decode cX3_layMargin 87 = .ok (.imul, 1) := dk_104 (dk_at dksX3_layMargin_3 16 rfl rfl)
theorem dX3_layMargin_88 : decode cX3_layMargin 88 = .ok (.iload_n 2, 1) := dk_28 (dk_at dksX3_layMargin_3 17 rfl rfl)
theorem dX3_layMargin_89 : decode cX3_layMargin 89 = .ok (.iadd, 1) := dk_96 (dk_at dksX3_layMargin_3 18 rfl rfl)
theorem dX3_layMargin_90 : decode cX3_layMargin 90 = .ok (.if_icmp .ne 9, 3) := dk_160 0 9 (dk_at dksX3_layMargin_3 19 rfl rfl)
theorem dX3_layMargin_93 : decode cX3_layMargin 93 = .ok (.aload_n 0, 1) := dk_42 (dk_at dksX3_layMargin_3 22 rfl rfl)
theorem dX3_layMargin_94 : decode cX3_layMargin 94 = .ok (.iload_n 3, 1) := dk_29 (dk_at dksX3_layMargin_3 23 rfl rfl)
theorem dX3_layMargin_95 : decode cX3_layMargin 95 = .ok (.iload_n 2, 1) := dk_28 (dk_at dksX3_layMargin_4 0 rfl rfl)
theorem dX3_layMargin_96 : decode cX3_layMargin 96 = .ok (.invokevirtual 315, 3) := dk_182 1 59 (dk_at dksX3_layMargin_4 1 rfl rfl)
theorem dX3_layMargin_99 : decode cX3_layMargin 99 = .ok (.iinc 3 1, 3) := dk_132 3 1 (dk_at dksX3_layMargin_4 4 rfl rfl)
theorem dX3_layMargin_102 : decode cX3_layMargin 102 = .ok (.goto (-54), 3) := dk_167 255 202 (dk_at dksX3_layMargin_4 7 rfl rfl)
theorem dX3_layMargin_105 : decode cX3_layMargin 105 = .ok (.iinc 2 1, 3) := dk_132 2 1 (dk_at dksX3_layMargin_4 10 rfl rfl)
theorem dX3_layMargin_108 : decode cX3_layMargin 108 = .ok (.goto (-75), 3) := dk_167 255 181 (dk_at dksX3_layMargin_4 13 rfl rfl)
theorem dX3_layMargin_111 : decode cX3_layMargin 111 = .ok (.return_, 1) := dk_177 (dk_at dksX3_layMargin_4 16 rfl rfl)
abbrev cX3_setGroup : ByteArray := prog_16_method_89_code
def yX3_setGroup : MethodName := ⟨RX3, "setGroup", "(II)V"⟩
def dkwX3_setGroup_4 : List UInt8 := [21, 5, 21, 4, 29, 96, 162, 0, 17, 42, 180, 0, 90, 21, 5, 27, 79, 132, 5, 1, 167, 255, 236, 177]
abbrev dktX3_setGroup_4 : List UInt8 := dkwX3_setGroup_4 ++ []
def dkwX3_setGroup_3 : List UInt8 := [180, 1, 53, 4, 96, 181, 1, 53, 177, 42, 89, 180, 1, 56, 4, 96, 181, 1, 56, 21, 4, 54, 5]
abbrev dktX3_setGroup_3 : List UInt8 := dkwX3_setGroup_3 ++ dktX3_setGroup_4
def dkwX3_setGroup_2 : List UInt8 := [132, 4, 1, 167, 255, 229, 21, 4, 42, 42, 182, 0, 164, 5, 182, 0, 103, 160, 0, 14, 42, 89]
abbrev dktX3_setGroup_2 : List UInt8 := dkwX3_setGroup_2 ++ dktX3_setGroup_3
def dkwX3_setGroup_1 : List UInt8 := [21, 4, 42, 42, 182, 0, 164, 5, 182, 0, 103, 162, 0, 19, 42, 21, 4, 29, 182, 1, 50, 154, 0, 9]
abbrev dktX3_setGroup_1 : List UInt8 := dkwX3_setGroup_1 ++ dktX3_setGroup_2
def dkwX3_setGroup_0 : List UInt8 := [42, 42, 180, 0, 75, 27, 46, 8, 182, 0, 205, 6, 164, 0, 7, 5, 167, 0, 4, 4, 62, 28, 54, 4]
abbrev dktX3_setGroup_0 : List UInt8 := dkwX3_setGroup_0 ++ dktX3_setGroup_1
theorem dksX3_setGroup_0 : cX3_setGroup.data.toList.drop 0 = dktX3_setGroup_0 := by decide +kernel
theorem dksX3_setGroup_1 : cX3_setGroup.data.toList.drop 24 = dktX3_setGroup_1 := dk_seg dksX3_setGroup_0 24 rfl rfl
theorem dksX3_setGroup_2 : cX3_setGroup.data.toList.drop 48 = dktX3_setGroup_2 := dk_seg dksX3_setGroup_1 24 rfl rfl
theorem dksX3_setGroup_3 : cX3_setGroup.data.toList.drop 70 = dktX3_setGroup_3 := dk_seg dksX3_setGroup_2 22 rfl rfl
theorem dksX3_setGroup_4 : cX3_setGroup.data.toList.drop 93 = dktX3_setGroup_4 := dk_seg dksX3_setGroup_3 23 rfl rfl
theorem dX3_setGroup_0 : decode cX3_setGroup 0 = .ok (.aload_n 0, 1) := dk_42 (dk_at dksX3_setGroup_0 0 rfl rfl)
theorem dX3_setGroup_1 : decode cX3_setGroup 1 = .ok (.aload_n 0, 1) := dk_42 (dk_at dksX3_setGroup_0 1 rfl rfl)
theorem dX3_setGroup_2 : decode cX3_setGroup 2 = .ok (.getfield 75, 3) := dk_180 0 75 (dk_at dksX3_setGroup_0 2 rfl rfl)
theorem dX3_setGroup_5 : decode cX3_setGroup 5 = .ok (.iload_n 1, 1) := dk_27 (dk_at dksX3_setGroup_0 5 rfl rfl)
theorem dX3_setGroup_6 : decode cX3_setGroup 6 = .ok (.iaload, 1) := dk_46 (dk_at dksX3_setGroup_0 6 rfl rfl)
theorem dX3_setGroup_7 : decode cX3_setGroup 7 = .ok (.iconst 5, 1) := dk_8 (dk_at dksX3_setGroup_0 7 rfl rfl)
theorem dX3_setGroup_8 : decode cX3_setGroup 8 = .ok (.invokevirtual 205, 3) := dk_182 0 205 (dk_at dksX3_setGroup_0 8 rfl rfl)
theorem dX3_setGroup_11 : decode cX3_setGroup 11 = .ok (.iconst 3, 1) := dk_6 (dk_at dksX3_setGroup_0 11 rfl rfl)
theorem dX3_setGroup_12 : decode cX3_setGroup 12 = .ok (.if_icmp .le 7, 3) := dk_164 0 7 (dk_at dksX3_setGroup_0 12 rfl rfl)
theorem dX3_setGroup_15 : decode cX3_setGroup 15 = .ok (.iconst 2, 1) := dk_5 (dk_at dksX3_setGroup_0 15 rfl rfl)
theorem dX3_setGroup_16 : decode cX3_setGroup 16 = .ok (.goto 4, 3) := dk_167 0 4 (dk_at dksX3_setGroup_0 16 rfl rfl)
theorem dX3_setGroup_19 : decode cX3_setGroup 19 = .ok (.iconst 1, 1) := dk_4 (dk_at dksX3_setGroup_0 19 rfl rfl)
theorem dX3_setGroup_20 : decode cX3_setGroup 20 = .ok (.istore_n 3, 1) := dk_62 (dk_at dksX3_setGroup_0 20 rfl rfl)
theorem dX3_setGroup_21 : decode cX3_setGroup 21 = .ok (.iload_n 2, 1) := dk_28 (dk_at dksX3_setGroup_0 21 rfl rfl)
theorem dX3_setGroup_22 : decode cX3_setGroup 22 = .ok (.istore 4, 2) := dk_54 4 (dk_at dksX3_setGroup_0 22 rfl rfl)
theorem dX3_setGroup_24 : decode cX3_setGroup 24 = .ok (.iload 4, 2) := dk_21 4 (dk_at dksX3_setGroup_1 0 rfl rfl)
theorem dX3_setGroup_26 : decode cX3_setGroup 26 = .ok (.aload_n 0, 1) := dk_42 (dk_at dksX3_setGroup_1 2 rfl rfl)
theorem dX3_setGroup_27 : decode cX3_setGroup 27 = .ok (.aload_n 0, 1) := dk_42 (dk_at dksX3_setGroup_1 3 rfl rfl)
theorem dX3_setGroup_28 : decode cX3_setGroup 28 = .ok (.invokevirtual 164, 3) := dk_182 0 164 (dk_at dksX3_setGroup_1 4 rfl rfl)
theorem dX3_setGroup_31 : decode cX3_setGroup 31 = .ok (.iconst 2, 1) := dk_5 (dk_at dksX3_setGroup_1 7 rfl rfl)
theorem dX3_setGroup_32 : decode cX3_setGroup 32 = .ok (.invokevirtual 103, 3) := dk_182 0 103 (dk_at dksX3_setGroup_1 8 rfl rfl)
theorem dX3_setGroup_35 : decode cX3_setGroup 35 = .ok (.if_icmp .ge 19, 3) := dk_162 0 19 (dk_at dksX3_setGroup_1 11 rfl rfl)
theorem dX3_setGroup_38 : decode cX3_setGroup 38 = .ok (.aload_n 0, 1) := dk_42 (dk_at dksX3_setGroup_1 14 rfl rfl)
theorem dX3_setGroup_39 : decode cX3_setGroup 39 = .ok (.iload 4, 2) := dk_21 4 (dk_at dksX3_setGroup_1 15 rfl rfl)
theorem dX3_setGroup_41 : decode cX3_setGroup 41 = .ok (.iload_n 3, 1) := dk_29 (dk_at dksX3_setGroup_1 17 rfl rfl)
theorem dX3_setGroup_42 : decode cX3_setGroup 42 = .ok (.invokevirtual 306, 3) := dk_182 1 50 (dk_at dksX3_setGroup_1 18 rfl rfl)
theorem dX3_setGroup_45 : decode cX3_setGroup 45 = .ok (.ifCond .ne 9, 3) := dk_154 0 9 (dk_at dksX3_setGroup_1 21 rfl rfl)
theorem dX3_setGroup_48 : decode cX3_setGroup 48 = .ok (.iinc 4 1, 3) := dk_132 4 1 (dk_at dksX3_setGroup_2 0 rfl rfl)
theorem dX3_setGroup_51 : decode cX3_setGroup 51 = .ok (.goto (-27), 3) := dk_167 255 229 (dk_at dksX3_setGroup_2 3 rfl rfl)
theorem dX3_setGroup_54 : decode cX3_setGroup 54 = .ok (.iload 4, 2) := dk_21 4 (dk_at dksX3_setGroup_2 6 rfl rfl)
theorem dX3_setGroup_56 : decode cX3_setGroup 56 = .ok (.aload_n 0, 1) := dk_42 (dk_at dksX3_setGroup_2 8 rfl rfl)
theorem dX3_setGroup_57 : decode cX3_setGroup 57 = .ok (.aload_n 0, 1) := dk_42 (dk_at dksX3_setGroup_2 9 rfl rfl)
theorem dX3_setGroup_58 : decode cX3_setGroup 58 = .ok (.invokevirtual 164, 3) := dk_182 0 164 (dk_at dksX3_setGroup_2 10 rfl rfl)
theorem dX3_setGroup_61 : decode cX3_setGroup 61 = .ok (.iconst 2, 1) := dk_5 (dk_at dksX3_setGroup_2 13 rfl rfl)
theorem dX3_setGroup_62 : decode cX3_setGroup 62 = .ok (.invokevirtual 103, 3) := dk_182 0 103 (dk_at dksX3_setGroup_2 14 rfl rfl)
theorem dX3_setGroup_65 : decode cX3_setGroup 65 = .ok (.if_icmp .ne 14, 3) := dk_160 0 14 (dk_at dksX3_setGroup_2 17 rfl rfl)
theorem dX3_setGroup_68 : decode cX3_setGroup 68 = .ok (.aload_n 0, 1) := dk_42 (dk_at dksX3_setGroup_2 20 rfl rfl)
theorem dX3_setGroup_69 : decode cX3_setGroup 69 = .ok (.dup, 1) := dk_89 (dk_at dksX3_setGroup_2 21 rfl rfl)
theorem dX3_setGroup_70 : decode cX3_setGroup 70 = .ok (.getfield 309, 3) := dk_180 1 53 (dk_at dksX3_setGroup_3 0 rfl rfl)
theorem dX3_setGroup_73 : decode cX3_setGroup 73 = .ok (.iconst 1, 1) := dk_4 (dk_at dksX3_setGroup_3 3 rfl rfl)
theorem dX3_setGroup_74 : decode cX3_setGroup 74 = .ok (.iadd, 1) := dk_96 (dk_at dksX3_setGroup_3 4 rfl rfl)
theorem dX3_setGroup_75 : decode cX3_setGroup 75 = .ok (.putfield 309, 3) := dk_181 1 53 (dk_at dksX3_setGroup_3 5 rfl rfl)
theorem dX3_setGroup_78 : decode cX3_setGroup 78 = .ok (.return_, 1) := dk_177 (dk_at dksX3_setGroup_3 8 rfl rfl)
theorem dX3_setGroup_79 : decode cX3_setGroup 79 = .ok (.aload_n 0, 1) := dk_42 (dk_at dksX3_setGroup_3 9 rfl rfl)
theorem dX3_setGroup_80 : decode cX3_setGroup 80 = .ok (.dup, 1) := dk_89 (dk_at dksX3_setGroup_3 10 rfl rfl)
theorem dX3_setGroup_81 : decode cX3_setGroup 81 = .ok (.getfield 312, 3) := dk_180 1 56 (dk_at dksX3_setGroup_3 11 rfl rfl)
theorem dX3_setGroup_84 : decode cX3_setGroup 84 = .ok (.iconst 1, 1) := dk_4 (dk_at dksX3_setGroup_3 14 rfl rfl)
theorem dX3_setGroup_85 : decode cX3_setGroup 85 = .ok (.iadd, 1) := dk_96 (dk_at dksX3_setGroup_3 15 rfl rfl)
theorem dX3_setGroup_86 : decode cX3_setGroup 86 = .ok (.putfield 312, 3) := dk_181 1 56 (dk_at dksX3_setGroup_3 16 rfl rfl)
theorem dX3_setGroup_89 : decode cX3_setGroup 89 = .ok (.iload 4, 2) := dk_21 4 (dk_at dksX3_setGroup_3 19 rfl rfl)
theorem dX3_setGroup_91 : decode cX3_setGroup 91 = .ok (.istore 5, 2) := dk_54 5 (dk_at dksX3_setGroup_3 21 rfl rfl)
theorem dX3_setGroup_93 : decode cX3_setGroup 93 = .ok (.iload 5, 2) := dk_21 5 (dk_at dksX3_setGroup_4 0 rfl rfl)
theorem dX3_setGroup_95 : decode cX3_setGroup 95 = .ok (.iload 4, 2) := dk_21 4 (dk_at dksX3_setGroup_4 2 rfl rfl)
theorem dX3_setGroup_97 : decode cX3_setGroup 97 = .ok (.iload_n 3, 1) := dk_29 (dk_at dksX3_setGroup_4 4 rfl rfl)
theorem dX3_setGroup_98 : decode cX3_setGroup 98 = .ok (.iadd, 1) := dk_96 (dk_at dksX3_setGroup_4 5 rfl rfl)
theorem dX3_setGroup_99 : decode cX3_setGroup 99 = .ok (.if_icmp .ge 17, 3) := dk_162 0 17 (dk_at dksX3_setGroup_4 6 rfl rfl)
theorem dX3_setGroup_102 : decode cX3_setGroup 102 = .ok (.aload_n 0, 1) := dk_42 (dk_at dksX3_setGroup_4 9 rfl rfl)
theorem dX3_setGroup_103 : decode cX3_setGroup 103 = .ok (.getfield 90, 3) := dk_180 0 90 (dk_at dksX3_setGroup_4 10 rfl rfl)
theorem dX3_setGroup_106 : decode cX3_setGroup 106 = .ok (.iload 5, 2) := dk_21 5 (dk_at dksX3_setGroup_4 13 rfl rfl)
theorem dX3_setGroup_108 : decode cX3_setGroup 108 = .ok (.iload_n 1, 1) := dk_27 (dk_at dksX3_setGroup_4 15 rfl rfl)
theorem dX3_setGroup_109 : decode cX3_setGroup 109 = .ok (.iastore, 1) := dk_79 (dk_at dksX3_setGroup_4 16 rfl rfl)
theorem dX3_setGroup_110 : decode cX3_setGroup 110 = .ok (.iinc 5 1, 3) := dk_132 5 1 (dk_at dksX3_setGroup_4 17 rfl rfl)
theorem dX3_setGroup_113 : decode cX3_setGroup 113 = .ok (.goto (-20), 3) := dk_167 255 236 (dk_at dksX3_setGroup_4 20 rfl rfl)
theorem dX3_setGroup_116 : decode cX3_setGroup 116 = .ok (.return_, 1) := dk_177 (dk_at dksX3_setGroup_4 23 rfl rfl)
abbrev cX3_isFree : ByteArray := prog_16_method_88_code
def yX3_isFree : MethodName := ⟨RX3, "isFree", "(II)Z"⟩
def dkwX3_isFree_2 : List UInt8 := [167, 0, 4, 3, 62, 132, 4, 1, 167, 255, 224, 29, 172]
abbrev dktX3_isFree_2 : List UInt8 := dkwX3_isFree_2 ++ []
def dkwX3_isFree_1 : List UInt8 := [21, 4, 27, 28, 96, 162, 0, 30, 29, 153, 0, 26, 42, 180, 0, 90, 21, 4, 46, 2, 160, 0, 7, 4]
abbrev dktX3_isFree_1 : List UInt8 := dkwX3_isFree_1 ++ dktX3_isFree_2
def dkwX3_isFree_0 : List UInt8 := [27, 28, 96, 42, 42, 182, 0, 164, 5, 182, 0, 103, 163, 0, 7, 4, 167, 0, 4, 3, 62, 27, 54, 4]
abbrev dktX3_isFree_0 : List UInt8 := dkwX3_isFree_0 ++ dktX3_isFree_1
theorem dksX3_isFree_0 : cX3_isFree.data.toList.drop 0 = dktX3_isFree_0 := by decide +kernel
theorem dksX3_isFree_1 : cX3_isFree.data.toList.drop 24 = dktX3_isFree_1 := dk_seg dksX3_isFree_0 24 rfl rfl
theorem dksX3_isFree_2 : cX3_isFree.data.toList.drop 48 = dktX3_isFree_2 := dk_seg dksX3_isFree_1 24 rfl rfl
theorem dX3_isFree_0 : decode cX3_isFree 0 = .ok (.iload_n 1, 1) := dk_27 (dk_at dksX3_isFree_0 0 rfl rfl)
theorem dX3_isFree_1 : decode cX3_isFree 1 = .ok (.iload_n 2, 1) := dk_28 (dk_at dksX3_isFree_0 1 rfl rfl)
theorem dX3_isFree_2 : decode cX3_isFree 2 = .ok (.iadd, 1) := dk_96 (dk_at dksX3_isFree_0 2 rfl rfl)
theorem dX3_isFree_3 : decode cX3_isFree 3 = .ok (.aload_n 0, 1) := dk_42 (dk_at dksX3_isFree_0 3 rfl rfl)
theorem dX3_isFree_4 : decode cX3_isFree 4 = .ok (.aload_n 0, 1) := dk_42 (dk_at dksX3_isFree_0 4 rfl rfl)
theorem dX3_isFree_5 : decode cX3_isFree 5 = .ok (.invokevirtual 164, 3) := dk_182 0 164 (dk_at dksX3_isFree_0 5 rfl rfl)
theorem dX3_isFree_8 : decode cX3_isFree 8 = .ok (.iconst 2, 1) := dk_5 (dk_at dksX3_isFree_0 8 rfl rfl)
theorem dX3_isFree_9 : decode cX3_isFree 9 = .ok (.invokevirtual 103, 3) := dk_182 0 103 (dk_at dksX3_isFree_0 9 rfl rfl)
theorem dX3_isFree_12 : decode cX3_isFree 12 = .ok (.if_icmp .gt 7, 3) := dk_163 0 7 (dk_at dksX3_isFree_0 12 rfl rfl)
theorem dX3_isFree_15 : decode cX3_isFree 15 = .ok (.iconst 1, 1) := dk_4 (dk_at dksX3_isFree_0 15 rfl rfl)
theorem dX3_isFree_16 : decode cX3_isFree 16 = .ok (.goto 4, 3) := dk_167 0 4 (dk_at dksX3_isFree_0 16 rfl rfl)
theorem dX3_isFree_19 : decode cX3_isFree 19 = .ok (.iconst 0, 1) := dk_3 (dk_at dksX3_isFree_0 19 rfl rfl)
theorem dX3_isFree_20 : decode cX3_isFree 20 = .ok (.istore_n 3, 1) := dk_62 (dk_at dksX3_isFree_0 20 rfl rfl)
theorem dX3_isFree_21 : decode cX3_isFree 21 = .ok (.iload_n 1, 1) := dk_27 (dk_at dksX3_isFree_0 21 rfl rfl)
theorem dX3_isFree_22 : decode cX3_isFree 22 = .ok (.istore 4, 2) := dk_54 4 (dk_at dksX3_isFree_0 22 rfl rfl)
theorem dX3_isFree_24 : decode cX3_isFree 24 = .ok (.iload 4, 2) := dk_21 4 (dk_at dksX3_isFree_1 0 rfl rfl)
theorem dX3_isFree_26 : decode cX3_isFree 26 = .ok (.iload_n 1, 1) := dk_27 (dk_at dksX3_isFree_1 2 rfl rfl)
theorem dX3_isFree_27 : decode cX3_isFree 27 = .ok (.iload_n 2, 1) := dk_28 (dk_at dksX3_isFree_1 3 rfl rfl)
theorem dX3_isFree_28 : decode cX3_isFree 28 = .ok (.iadd, 1) := dk_96 (dk_at dksX3_isFree_1 4 rfl rfl)
theorem dX3_isFree_29 : decode cX3_isFree 29 = .ok (.if_icmp .ge 30, 3) := dk_162 0 30 (dk_at dksX3_isFree_1 5 rfl rfl)
theorem dX3_isFree_32 : decode cX3_isFree 32 = .ok (.iload_n 3, 1) := dk_29 (dk_at dksX3_isFree_1 8 rfl rfl)
theorem dX3_isFree_33 : decode cX3_isFree 33 = .ok (.ifCond .eq 26, 3) := dk_153 0 26 (dk_at dksX3_isFree_1 9 rfl rfl)
theorem dX3_isFree_36 : decode cX3_isFree 36 = .ok (.aload_n 0, 1) := dk_42 (dk_at dksX3_isFree_1 12 rfl rfl)
theorem dX3_isFree_37 : decode cX3_isFree 37 = .ok (.getfield 90, 3) := dk_180 0 90 (dk_at dksX3_isFree_1 13 rfl rfl)
theorem dX3_isFree_40 : decode cX3_isFree 40 = .ok (.iload 4, 2) := dk_21 4 (dk_at dksX3_isFree_1 16 rfl rfl)
theorem dX3_isFree_42 : decode cX3_isFree 42 = .ok (.iaload, 1) := dk_46 (dk_at dksX3_isFree_1 18 rfl rfl)
theorem dX3_isFree_43 : decode cX3_isFree 43 = .ok (.iconst (-1), 1) := dk_2 (dk_at dksX3_isFree_1 19 rfl rfl)
theorem dX3_isFree_44 : decode cX3_isFree 44 = .ok (.if_icmp .ne 7, 3) := dk_160 0 7 (dk_at dksX3_isFree_1 20 rfl rfl)
theorem dX3_isFree_47 : decode cX3_isFree 47 = .ok (.iconst 1, 1) := dk_4 (dk_at dksX3_isFree_1 23 rfl rfl)
theorem dX3_isFree_48 : decode cX3_isFree 48 = .ok (.goto 4, 3) := dk_167 0 4 (dk_at dksX3_isFree_2 0 rfl rfl)
theorem dX3_isFree_51 : decode cX3_isFree 51 = .ok (.iconst 0, 1) := dk_3 (dk_at dksX3_isFree_2 3 rfl rfl)
theorem dX3_isFree_52 : decode cX3_isFree 52 = .ok (.istore_n 3, 1) := dk_62 (dk_at dksX3_isFree_2 4 rfl rfl)
theorem dX3_isFree_53 : decode cX3_isFree 53 = .ok (.iinc 4 1, 3) := dk_132 4 1 (dk_at dksX3_isFree_2 5 rfl rfl)
theorem dX3_isFree_56 : decode cX3_isFree 56 = .ok (.goto (-32), 3) := dk_167 255 224 (dk_at dksX3_isFree_2 8 rfl rfl)
theorem dX3_isFree_59 : decode cX3_isFree 59 = .ok (.iload_n 3, 1) := dk_29 (dk_at dksX3_isFree_2 11 rfl rfl)
theorem dX3_isFree_60 : decode cX3_isFree 60 = .ok (.ireturn, 1) := dk_172 (dk_at dksX3_isFree_2 12 rfl rfl)
abbrev cX3_marginRow : ByteArray := prog_16_method_94_code
def yX3_marginRow : MethodName := ⟨RX3, "marginRow", "(II)I"⟩
def dkwX3_marginRow_2 : List UInt8 := [154, 0, 9, 42, 4, 182, 0, 141, 172, 42, 27, 182, 1, 68, 42, 180, 0, 90, 28, 46, 172]
abbrev dktX3_marginRow_2 : List UInt8 := dkwX3_marginRow_2 ++ []
def dkwX3_marginRow_1 : List UInt8 := [182, 1, 65, 153, 0, 22, 28, 3, 42, 42, 182, 0, 164, 5, 182, 0, 103, 4, 100, 184, 0, 111]
abbrev dktX3_marginRow_1 : List UInt8 := dkwX3_marginRow_1 ++ dktX3_marginRow_2
def dkwX3_marginRow_0 : List UInt8 := [42, 3, 181, 0, 100, 42, 182, 0, 107, 154, 0, 9, 42, 4, 182, 0, 141, 172, 42, 182, 1, 62, 42, 27]
abbrev dktX3_marginRow_0 : List UInt8 := dkwX3_marginRow_0 ++ dktX3_marginRow_1
theorem dksX3_marginRow_0 : cX3_marginRow.data.toList.drop 0 = dktX3_marginRow_0 := by decide +kernel
theorem dksX3_marginRow_1 : cX3_marginRow.data.toList.drop 24 = dktX3_marginRow_1 := dk_seg dksX3_marginRow_0 24 rfl rfl
theorem dksX3_marginRow_2 : cX3_marginRow.data.toList.drop 46 = dktX3_marginRow_2 := dk_seg dksX3_marginRow_1 22 rfl rfl
theorem dX3_marginRow_0 : decode cX3_marginRow 0 = .ok (.aload_n 0, 1) := dk_42 (dk_at dksX3_marginRow_0 0 rfl rfl)
theorem dX3_marginRow_1 : decode cX3_marginRow 1 = .ok (.iconst 0, 1) := dk_3 (dk_at dksX3_marginRow_0 1 rfl rfl)
theorem dX3_marginRow_2 : decode cX3_marginRow 2 = .ok (.putfield 100, 3) := dk_181 0 100 (dk_at dksX3_marginRow_0 2 rfl rfl)
theorem dX3_marginRow_5 : decode cX3_marginRow 5 = .ok (.aload_n 0, 1) := dk_42 (dk_at dksX3_marginRow_0 5 rfl rfl)
theorem dX3_marginRow_6 : decode cX3_marginRow 6 = .ok (.invokevirtual 107, 3) := dk_182 0 107 (dk_at dksX3_marginRow_0 6 rfl rfl)
theorem dX3_marginRow_9 : decode cX3_marginRow 9 = .ok (.ifCond .ne 9, 3) := dk_154 0 9 (dk_at dksX3_marginRow_0 9 rfl rfl)
theorem dX3_marginRow_12 : decode cX3_marginRow 12 = .ok (.aload_n 0, 1) := dk_42 (dk_at dksX3_marginRow_0 12 rfl rfl)
theorem dX3_marginRow_13 : decode cX3_marginRow 13 = .ok (.iconst 1, 1) := dk_4 (dk_at dksX3_marginRow_0 13 rfl rfl)
theorem dX3_marginRow_14 : decode cX3_marginRow 14 = .ok (.invokevirtual 141, 3) := dk_182 0 141 (dk_at dksX3_marginRow_0 14 rfl rfl)
theorem dX3_marginRow_17 : decode cX3_marginRow 17 = .ok (.ireturn, 1) := dk_172 (dk_at dksX3_marginRow_0 17 rfl rfl)
theorem dX3_marginRow_18 : decode cX3_marginRow 18 = .ok (.aload_n 0, 1) := dk_42 (dk_at dksX3_marginRow_0 18 rfl rfl)
theorem dX3_marginRow_19 : decode cX3_marginRow 19 = .ok (.invokevirtual 318, 3) := dk_182 1 62 (dk_at dksX3_marginRow_0 19 rfl rfl)
theorem dX3_marginRow_22 : decode cX3_marginRow 22 = .ok (.aload_n 0, 1) := dk_42 (dk_at dksX3_marginRow_0 22 rfl rfl)
theorem dX3_marginRow_23 : decode cX3_marginRow 23 = .ok (.iload_n 1, 1) := dk_27 (dk_at dksX3_marginRow_0 23 rfl rfl)
theorem dX3_marginRow_24 : decode cX3_marginRow 24 = .ok (.invokevirtual 321, 3) := dk_182 1 65 (dk_at dksX3_marginRow_1 0 rfl rfl)
theorem dX3_marginRow_27 : decode cX3_marginRow 27 = .ok (.ifCond .eq 22, 3) := dk_153 0 22 (dk_at dksX3_marginRow_1 3 rfl rfl)
theorem dX3_marginRow_30 : decode cX3_marginRow 30 = .ok (.iload_n 2, 1) := dk_28 (dk_at dksX3_marginRow_1 6 rfl rfl)
theorem dX3_marginRow_31 : decode cX3_marginRow 31 = .ok (.iconst 0, 1) := dk_3 (dk_at dksX3_marginRow_1 7 rfl rfl)
theorem dX3_marginRow_32 : decode cX3_marginRow 32 = .ok (.aload_n 0, 1) := dk_42 (dk_at dksX3_marginRow_1 8 rfl rfl)
theorem dX3_marginRow_33 : decode cX3_marginRow 33 = .ok (.aload_n 0, 1) := dk_42 (dk_at dksX3_marginRow_1 9 rfl rfl)
theorem dX3_marginRow_34 : decode cX3_marginRow 34 = .ok (.invokevirtual 164, 3) := dk_182 0 164 (dk_at dksX3_marginRow_1 10 rfl rfl)
theorem dX3_marginRow_37 : decode cX3_marginRow 37 = .ok (.iconst 2, 1) := dk_5 (dk_at dksX3_marginRow_1 13 rfl rfl)
theorem dX3_marginRow_38 : decode cX3_marginRow 38 = .ok (.invokevirtual 103, 3) := dk_182 0 103 (dk_at dksX3_marginRow_1 14 rfl rfl)
theorem dX3_marginRow_41 : decode cX3_marginRow 41 = .ok (.iconst 1, 1) := dk_4 (dk_at dksX3_marginRow_1 17 rfl rfl)
theorem dX3_marginRow_42 : decode cX3_marginRow 42 = .ok (.isub, 1) := dk_100 (dk_at dksX3_marginRow_1 18 rfl rfl)
theorem dX3_marginRow_43 : decode cX3_marginRow 43 = .ok (.invokestatic 111, 3) := dk_184 0 111 (dk_at dksX3_marginRow_1 19 rfl rfl)
theorem dX3_marginRow_46 : decode cX3_marginRow 46 = .ok (.ifCond .ne 9, 3) := dk_154 0 9 (dk_at dksX3_marginRow_2 0 rfl rfl)
theorem dX3_marginRow_49 : decode cX3_marginRow 49 = .ok (.aload_n 0, 1) := dk_42 (dk_at dksX3_marginRow_2 3 rfl rfl)
theorem dX3_marginRow_50 : decode cX3_marginRow 50 = .ok (.iconst 1, 1) := dk_4 (dk_at dksX3_marginRow_2 4 rfl rfl)
theorem dX3_marginRow_51 : decode cX3_marginRow 51 = .ok (.invokevirtual 141, 3) := dk_182 0 141 (dk_at dksX3_marginRow_2 5 rfl rfl)
theorem dX3_marginRow_54 : decode cX3_marginRow 54 = .ok (.ireturn, 1) := dk_172 (dk_at dksX3_marginRow_2 8 rfl rfl)
theorem dX3_marginRow_55 : decode cX3_marginRow 55 = .ok (.aload_n 0, 1) := dk_42 (dk_at dksX3_marginRow_2 9 rfl rfl)
theorem dX3_marginRow_56 : decode cX3_marginRow 56 = .ok (.iload_n 1, 1) := dk_27 (dk_at dksX3_marginRow_2 10 rfl rfl)
theorem dX3_marginRow_57 : decode cX3_marginRow 57 = .ok (.invokevirtual 324, 3) := dk_182 1 68 (dk_at dksX3_marginRow_2 11 rfl rfl)
theorem dX3_marginRow_60 : decode cX3_marginRow 60 = .ok (.aload_n 0, 1) := dk_42 (dk_at dksX3_marginRow_2 14 rfl rfl)
theorem dX3_marginRow_61 : decode cX3_marginRow 61 = .ok (.getfield 90, 3) := dk_180 0 90 (dk_at dksX3_marginRow_2 15 rfl rfl)
theorem dX3_marginRow_64 : decode cX3_marginRow 64 = .ok (.iload_n 2, 1) := dk_28 (dk_at dksX3_marginRow_2 18 rfl rfl)
theorem dX3_marginRow_65 : decode cX3_marginRow 65 = .ok (.iaload, 1) := dk_46 (dk_at dksX3_marginRow_2 19 rfl rfl)
theorem dX3_marginRow_66 : decode cX3_marginRow 66 = .ok (.ireturn, 1) := dk_172 (dk_at dksX3_marginRow_2 20 rfl rfl)
abbrev cX3_overflows : ByteArray := prog_16_method_95_code
def yX3_overflows : MethodName := ⟨RX3, "overflows", "()I"⟩
def dkwX3_overflows_2 : List UInt8 := [132, 2, 1, 167, 255, 229, 27, 172]
abbrev dktX3_overflows_2 : List UInt8 := dkwX3_overflows_2 ++ []
def dkwX3_overflows_1 : List UInt8 := [42, 182, 0, 164, 182, 0, 195, 162, 0, 21, 42, 28, 182, 1, 68, 27, 42, 180, 1, 53, 96, 60]
abbrev dktX3_overflows_1 : List UInt8 := dkwX3_overflows_1 ++ dktX3_overflows_2
def dkwX3_overflows_0 : List UInt8 := [42, 3, 181, 0, 100, 42, 182, 0, 107, 154, 0, 5, 3, 172, 42, 182, 1, 62, 3, 60, 3, 61, 28, 42]
abbrev dktX3_overflows_0 : List UInt8 := dkwX3_overflows_0 ++ dktX3_overflows_1
theorem dksX3_overflows_0 : cX3_overflows.data.toList.drop 0 = dktX3_overflows_0 := by decide +kernel
theorem dksX3_overflows_1 : cX3_overflows.data.toList.drop 24 = dktX3_overflows_1 := dk_seg dksX3_overflows_0 24 rfl rfl
theorem dksX3_overflows_2 : cX3_overflows.data.toList.drop 46 = dktX3_overflows_2 := dk_seg dksX3_overflows_1 22 rfl rfl
theorem dX3_overflows_0 : decode cX3_overflows 0 = .ok (.aload_n 0, 1) := dk_42 (dk_at dksX3_overflows_0 0 rfl rfl)
theorem dX3_overflows_1 : decode cX3_overflows 1 = .ok (.iconst 0, 1) := dk_3 (dk_at dksX3_overflows_0 1 rfl rfl)
theorem dX3_overflows_2 : decode cX3_overflows 2 = .ok (.putfield 100, 3) := dk_181 0 100 (dk_at dksX3_overflows_0 2 rfl rfl)
theorem dX3_overflows_5 : decode cX3_overflows 5 = .ok (.aload_n 0, 1) := dk_42 (dk_at dksX3_overflows_0 5 rfl rfl)
theorem dX3_overflows_6 : decode cX3_overflows 6 = .ok (.invokevirtual 107, 3) := dk_182 0 107 (dk_at dksX3_overflows_0 6 rfl rfl)
theorem dX3_overflows_9 : decode cX3_overflows 9 = .ok (.ifCond .ne 5, 3) := dk_154 0 5 (dk_at dksX3_overflows_0 9 rfl rfl)
theorem dX3_overflows_12 : decode cX3_overflows 12 = .ok (.iconst 0, 1) := dk_3 (dk_at dksX3_overflows_0 12 rfl rfl)
theorem dX3_overflows_13 : decode cX3_overflows 13 = .ok (.ireturn, 1) := dk_172 (dk_at dksX3_overflows_0 13 rfl rfl)
theorem dX3_overflows_14 : decode cX3_overflows 14 = .ok (.aload_n 0, 1) := dk_42 (dk_at dksX3_overflows_0 14 rfl rfl)
theorem dX3_overflows_15 : decode cX3_overflows 15 = .ok (.invokevirtual 318, 3) := dk_182 1 62 (dk_at dksX3_overflows_0 15 rfl rfl)
theorem dX3_overflows_18 : decode cX3_overflows 18 = .ok (.iconst 0, 1) := dk_3 (dk_at dksX3_overflows_0 18 rfl rfl)
theorem dX3_overflows_19 : decode cX3_overflows 19 = .ok (.istore_n 1, 1) := dk_60 (dk_at dksX3_overflows_0 19 rfl rfl)
theorem dX3_overflows_20 : decode cX3_overflows 20 = .ok (.iconst 0, 1) := dk_3 (dk_at dksX3_overflows_0 20 rfl rfl)
theorem dX3_overflows_21 : decode cX3_overflows 21 = .ok (.istore_n 2, 1) := dk_61 (dk_at dksX3_overflows_0 21 rfl rfl)
theorem dX3_overflows_22 : decode cX3_overflows 22 = .ok (.iload_n 2, 1) := dk_28 (dk_at dksX3_overflows_0 22 rfl rfl)
theorem dX3_overflows_23 : decode cX3_overflows 23 = .ok (.aload_n 0, 1) := dk_42 (dk_at dksX3_overflows_0 23 rfl rfl)
theorem dX3_overflows_24 : decode cX3_overflows 24 = .ok (.aload_n 0, 1) := dk_42 (dk_at dksX3_overflows_1 0 rfl rfl)
theorem dX3_overflows_25 : decode cX3_overflows 25 = .ok (.invokevirtual 164, 3) := dk_182 0 164 (dk_at dksX3_overflows_1 1 rfl rfl)
theorem dX3_overflows_28 : decode cX3_overflows 28 = .ok (.invokevirtual 195, 3) := dk_182 0 195 (dk_at dksX3_overflows_1 4 rfl rfl)
theorem dX3_overflows_31 : decode cX3_overflows 31 = .ok (.if_icmp .ge 21, 3) := dk_162 0 21 (dk_at dksX3_overflows_1 7 rfl rfl)
theorem dX3_overflows_34 : decode cX3_overflows 34 = .ok (.aload_n 0, 1) := dk_42 (dk_at dksX3_overflows_1 10 rfl rfl)
theorem dX3_overflows_35 : decode cX3_overflows 35 = .ok (.iload_n 2, 1) := dk_28 (dk_at dksX3_overflows_1 11 rfl rfl)
theorem dX3_overflows_36 : decode cX3_overflows 36 = .ok (.invokevirtual 324, 3) := dk_182 1 68 (dk_at dksX3_overflows_1 12 rfl rfl)
theorem dX3_overflows_39 : decode cX3_overflows 39 = .ok (.iload_n 1, 1) := dk_27 (dk_at dksX3_overflows_1 15 rfl rfl)
theorem dX3_overflows_40 : decode cX3_overflows 40 = .ok (.aload_n 0, 1) := dk_42 (dk_at dksX3_overflows_1 16 rfl rfl)
theorem dX3_overflows_41 : decode cX3_overflows 41 = .ok (.getfield 309, 3) := dk_180 1 53 (dk_at dksX3_overflows_1 17 rfl rfl)
theorem dX3_overflows_44 : decode cX3_overflows 44 = .ok (.iadd, 1) := dk_96 (dk_at dksX3_overflows_1 20 rfl rfl)
theorem dX3_overflows_45 : decode cX3_overflows 45 = .ok (.istore_n 1, 1) := dk_60 (dk_at dksX3_overflows_1 21 rfl rfl)
theorem dX3_overflows_46 : decode cX3_overflows 46 = .ok (.iinc 2 1, 3) := dk_132 2 1 (dk_at dksX3_overflows_2 0 rfl rfl)
theorem dX3_overflows_49 : decode cX3_overflows 49 = .ok (.goto (-27), 3) := dk_167 255 229 (dk_at dksX3_overflows_2 3 rfl rfl)
theorem dX3_overflows_52 : decode cX3_overflows 52 = .ok (.iload_n 1, 1) := dk_27 (dk_at dksX3_overflows_2 6 rfl rfl)
theorem dX3_overflows_53 : decode cX3_overflows 53 = .ok (.ireturn, 1) := dk_172 (dk_at dksX3_overflows_2 7 rfl rfl)
abbrev cX3_write : ByteArray := prog_16_method_100_code
def yX3_write : MethodName := ⟨RX3, "write", "(I)I"⟩
def dkwX3_write_1 : List UInt8 := [3, 181, 1, 71, 42, 27, 182, 1, 101, 42, 180, 1, 71, 172]
abbrev dktX3_write_1 : List UInt8 := dkwX3_write_1 ++ []
def dkwX3_write_0 : List UInt8 := [42, 3, 181, 0, 100, 42, 182, 0, 158, 42, 27, 182, 1, 35, 154, 0, 9, 42, 4, 182, 0, 141, 172, 42]
abbrev dktX3_write_0 : List UInt8 := dkwX3_write_0 ++ dktX3_write_1
theorem dksX3_write_0 : cX3_write.data.toList.drop 0 = dktX3_write_0 := by decide +kernel
theorem dksX3_write_1 : cX3_write.data.toList.drop 24 = dktX3_write_1 := dk_seg dksX3_write_0 24 rfl rfl
theorem dX3_write_0 : decode cX3_write 0 = .ok (.aload_n 0, 1) := dk_42 (dk_at dksX3_write_0 0 rfl rfl)
theorem dX3_write_1 : decode cX3_write 1 = .ok (.iconst 0, 1) := dk_3 (dk_at dksX3_write_0 1 rfl rfl)
theorem dX3_write_2 : decode cX3_write 2 = .ok (.putfield 100, 3) := dk_181 0 100 (dk_at dksX3_write_0 2 rfl rfl)
theorem dX3_write_5 : decode cX3_write 5 = .ok (.aload_n 0, 1) := dk_42 (dk_at dksX3_write_0 5 rfl rfl)
theorem dX3_write_6 : decode cX3_write 6 = .ok (.invokevirtual 158, 3) := dk_182 0 158 (dk_at dksX3_write_0 6 rfl rfl)
theorem dX3_write_9 : decode cX3_write 9 = .ok (.aload_n 0, 1) := dk_42 (dk_at dksX3_write_0 9 rfl rfl)
theorem dX3_write_10 : decode cX3_write 10 = .ok (.iload_n 1, 1) := dk_27 (dk_at dksX3_write_0 10 rfl rfl)
theorem dX3_write_11 : decode cX3_write 11 = .ok (.invokevirtual 291, 3) := dk_182 1 35 (dk_at dksX3_write_0 11 rfl rfl)
theorem dX3_write_14 : decode cX3_write 14 = .ok (.ifCond .ne 9, 3) := dk_154 0 9 (dk_at dksX3_write_0 14 rfl rfl)
theorem dX3_write_17 : decode cX3_write 17 = .ok (.aload_n 0, 1) := dk_42 (dk_at dksX3_write_0 17 rfl rfl)
theorem dX3_write_18 : decode cX3_write 18 = .ok (.iconst 1, 1) := dk_4 (dk_at dksX3_write_0 18 rfl rfl)
theorem dX3_write_19 : decode cX3_write 19 = .ok (.invokevirtual 141, 3) := dk_182 0 141 (dk_at dksX3_write_0 19 rfl rfl)
theorem dX3_write_22 : decode cX3_write 22 = .ok (.ireturn, 1) := dk_172 (dk_at dksX3_write_0 22 rfl rfl)
theorem dX3_write_23 : decode cX3_write 23 = .ok (.aload_n 0, 1) := dk_42 (dk_at dksX3_write_0 23 rfl rfl)
theorem dX3_write_24 : decode cX3_write 24 = .ok (.iconst 0, 1) := dk_3 (dk_at dksX3_write_1 0 rfl rfl)
theorem dX3_write_25 : decode cX3_write 25 = .ok (.putfield 327, 3) := dk_181 1 71 (dk_at dksX3_write_1 1 rfl rfl)
theorem dX3_write_28 : decode cX3_write 28 = .ok (.aload_n 0, 1) := dk_42 (dk_at dksX3_write_1 4 rfl rfl)
theorem dX3_write_29 : decode cX3_write 29 = .ok (.iload_n 1, 1) := dk_27 (dk_at dksX3_write_1 5 rfl rfl)
theorem dX3_write_30 : decode cX3_write 30 = .ok (.invokevirtual 357, 3) := dk_182 1 101 (dk_at dksX3_write_1 6 rfl rfl)
theorem dX3_write_33 : decode cX3_write 33 = .ok (.aload_n 0, 1) := dk_42 (dk_at dksX3_write_1 9 rfl rfl)
theorem dX3_write_34 : decode cX3_write 34 = .ok (.getfield 327, 3) := dk_180 1 71 (dk_at dksX3_write_1 10 rfl rfl)
theorem dX3_write_37 : decode cX3_write 37 = .ok (.ireturn, 1) := dk_172 (dk_at dksX3_write_1 13 rfl rfl)
abbrev cX3_putGroup : ByteArray := prog_16_method_99_code
def yX3_putGroup : MethodName := ⟨RX3, "putGroup", "(I)V"⟩
def dkwX3_putGroup_7 : List UInt8 := [167, 255, 227, 177]
abbrev dktX3_putGroup_7 : List UInt8 := dkwX3_putGroup_7 ++ []
def dkwX3_putGroup_6 : List UInt8 := [162, 0, 25, 42, 16, 32, 182, 1, 74, 42, 42, 28, 29, 182, 1, 9, 182, 1, 94, 132, 3, 1]
abbrev dktX3_putGroup_6 : List UInt8 := dkwX3_putGroup_6 ++ dktX3_putGroup_7
def dkwX3_putGroup_5 : List UInt8 := [42, 28, 8, 182, 0, 205, 158, 0, 9, 42, 16, 58, 182, 1, 74, 3, 62, 29, 42, 28, 8, 182, 0, 205]
abbrev dktX3_putGroup_5 : List UInt8 := dkwX3_putGroup_5 ++ dktX3_putGroup_6
def dkwX3_putGroup_4 : List UInt8 := [42, 182, 0, 164, 28, 182, 0, 181, 182, 1, 94, 132, 2, 1, 167, 255, 219, 42, 180, 0, 75, 27, 46, 61]
abbrev dktX3_putGroup_4 : List UInt8 := dkwX3_putGroup_4 ++ dktX3_putGroup_5
def dkwX3_putGroup_3 : List UInt8 := [61, 28, 42, 180, 0, 72, 27, 46, 163, 0, 33, 28, 2, 159, 0, 28, 42, 16, 32, 182, 1, 74, 42, 42]
abbrev dktX3_putGroup_3 : List UInt8 := dkwX3_putGroup_3 ++ dktX3_putGroup_4
def dkwX3_putGroup_2 : List UInt8 := [167, 255, 211, 42, 42, 42, 180, 0, 78, 27, 46, 4, 182, 0, 205, 182, 1, 98, 42, 180, 0, 69, 27, 46]
abbrev dktX3_putGroup_2 : List UInt8 := dkwX3_putGroup_2 ++ dktX3_putGroup_3
def dkwX3_putGroup_1 : List UInt8 := [42, 42, 180, 0, 19, 17, 1, 104, 28, 96, 47, 182, 1, 94, 42, 16, 32, 182, 1, 74, 132, 2, 1]
abbrev dktX3_putGroup_1 : List UInt8 := dkwX3_putGroup_1 ++ dktX3_putGroup_2
def dkwX3_putGroup_0 : List UInt8 := [3, 61, 28, 42, 182, 0, 123, 162, 0, 43, 42, 180, 0, 84, 27, 46, 28, 122, 4, 126, 4, 160, 0, 23]
abbrev dktX3_putGroup_0 : List UInt8 := dkwX3_putGroup_0 ++ dktX3_putGroup_1
theorem dksX3_putGroup_0 : cX3_putGroup.data.toList.drop 0 = dktX3_putGroup_0 := by decide +kernel
theorem dksX3_putGroup_1 : cX3_putGroup.data.toList.drop 24 = dktX3_putGroup_1 := dk_seg dksX3_putGroup_0 24 rfl rfl
theorem dksX3_putGroup_2 : cX3_putGroup.data.toList.drop 47 = dktX3_putGroup_2 := dk_seg dksX3_putGroup_1 23 rfl rfl
theorem dksX3_putGroup_3 : cX3_putGroup.data.toList.drop 71 = dktX3_putGroup_3 := dk_seg dksX3_putGroup_2 24 rfl rfl
theorem dksX3_putGroup_4 : cX3_putGroup.data.toList.drop 95 = dktX3_putGroup_4 := dk_seg dksX3_putGroup_3 24 rfl rfl
theorem dksX3_putGroup_5 : cX3_putGroup.data.toList.drop 119 = dktX3_putGroup_5 := dk_seg dksX3_putGroup_4 24 rfl rfl
theorem dksX3_putGroup_6 : cX3_putGroup.data.toList.drop 143 = dktX3_putGroup_6 := dk_seg dksX3_putGroup_5 24 rfl rfl
theorem dksX3_putGroup_7 : cX3_putGroup.data.toList.drop 165 = dktX3_putGroup_7 := dk_seg dksX3_putGroup_6 22 rfl rfl
theorem dX3_putGroup_0 : decode cX3_putGroup 0 = .ok (.iconst 0, 1) := dk_3 (dk_at dksX3_putGroup_0 0 rfl rfl)
theorem dX3_putGroup_1 : decode cX3_putGroup 1 = .ok (.istore_n 2, 1) := dk_61 (dk_at dksX3_putGroup_0 1 rfl rfl)
theorem dX3_putGroup_2 : decode cX3_putGroup 2 = .ok (.iload_n 2, 1) := dk_28 (dk_at dksX3_putGroup_0 2 rfl rfl)
theorem dX3_putGroup_3 : decode cX3_putGroup 3 = .ok (.aload_n 0, 1) := dk_42 (dk_at dksX3_putGroup_0 3 rfl rfl)
theorem dX3_putGroup_4 : decode cX3_putGroup 4 = .ok (.invokevirtual 123, 3) := dk_182 0 123 (dk_at dksX3_putGroup_0 4 rfl rfl)
theorem dX3_putGroup_7 : decode cX3_putGroup 7 = .ok (.if_icmp .ge 43, 3) := dk_162 0 43 (dk_at dksX3_putGroup_0 7 rfl rfl)
theorem dX3_putGroup_10 : decode cX3_putGroup 10 = .ok (.aload_n 0, 1) := dk_42 (dk_at dksX3_putGroup_0 10 rfl rfl)
theorem dX3_putGroup_11 : decode cX3_putGroup 11 = .ok (.getfield 84, 3) := dk_180 0 84 (dk_at dksX3_putGroup_0 11 rfl rfl)
theorem dX3_putGroup_14 : decode cX3_putGroup 14 = .ok (.iload_n 1, 1) := dk_27 (dk_at dksX3_putGroup_0 14 rfl rfl)
theorem dX3_putGroup_15 : decode cX3_putGroup 15 = .ok (.iaload, 1) := dk_46 (dk_at dksX3_putGroup_0 15 rfl rfl)
theorem dX3_putGroup_16 : decode cX3_putGroup 16 = .ok (.iload_n 2, 1) := dk_28 (dk_at dksX3_putGroup_0 16 rfl rfl)
theorem dX3_putGroup_17 : decode cX3_putGroup 17 = .ok (.ishr, 1) := dk_122 (dk_at dksX3_putGroup_0 17 rfl rfl)
theorem dX3_putGroup_18 : decode cX3_putGroup 18 = .ok (.iconst 1, 1) := dk_4 (dk_at dksX3_putGroup_0 18 rfl rfl)
theorem dX3_putGroup_19 : decode cX3_putGroup 19 = .ok (.iand, 1) := dk_126 (dk_at dksX3_putGroup_0 19 rfl rfl)
theorem dX3_putGroup_20 : decode cX3_putGroup 20 = .ok (.iconst 1, 1) := dk_4 (dk_at dksX3_putGroup_0 20 rfl rfl)
theorem dX3_putGroup_21 : decode cX3_putGroup 21 = .ok (.if_icmp .ne 23, 3) := dk_160 0 23 (dk_at dksX3_putGroup_0 21 rfl rfl)
theorem dX3_putGroup_24 : decode cX3_putGroup 24 = .ok (.aload_n 0, 1) := dk_42 (dk_at dksX3_putGroup_1 0 rfl rfl)
theorem dX3_putGroup_25 : decode cX3_putGroup 25 = .ok (.aload_n 0, 1) := dk_42 (dk_at dksX3_putGroup_1 1 rfl rfl)
theorem dX3_putGroup_26 : decode cX3_putGroup 26 = .ok (.getfield 19, 3) := dk_180 0 19 (dk_at dksX3_putGroup_1 2 rfl rfl)
theorem dX3_putGroup_29 : decode cX3_putGroup 29 = .ok (.sipush 360, 3) := dk_17 1 104 (dk_at dksX3_putGroup_1 5 rfl rfl)
theorem dX3_putGroup_32 : decode cX3_putGroup 32 = .ok (.iload_n 2, 1) := dk_28 (dk_at dksX3_putGroup_1 8 rfl rfl)
theorem dX3_putGroup_33 : decode cX3_putGroup 33 = .ok (.iadd, 1) := dk_96 (dk_at dksX3_putGroup_1 9 rfl rfl)
theorem dX3_putGroup_34 : decode cX3_putGroup 34 = .ok (.laload, 1) := dk_47 (dk_at dksX3_putGroup_1 10 rfl rfl)
theorem dX3_putGroup_35 : decode cX3_putGroup 35 = .ok (.invokevirtual 350, 3) := dk_182 1 94 (dk_at dksX3_putGroup_1 11 rfl rfl)
theorem dX3_putGroup_38 : decode cX3_putGroup 38 = .ok (.aload_n 0, 1) := dk_42 (dk_at dksX3_putGroup_1 14 rfl rfl)
theorem dX3_putGroup_39 : decode cX3_putGroup 39 = .ok (.bipush 32, 2) := dk_16 32 (dk_at dksX3_putGroup_1 15 rfl rfl)
theorem dX3_putGroup_41 : decode cX3_putGroup 41 = .ok (.invokevirtual 330, 3) := dk_182 1 74 (dk_at dksX3_putGroup_1 17 rfl rfl)
theorem dX3_putGroup_44 : decode cX3_putGroup 44 = .ok (.iinc 2 1, 3) := dk_132 2 1 (dk_at dksX3_putGroup_1 20 rfl rfl)
theorem dX3_putGroup_47 : decode cX3_putGroup 47 = .ok (.goto (-45), 3) := dk_167 255 211 (dk_at dksX3_putGroup_2 0 rfl rfl)
theorem dX3_putGroup_50 : decode cX3_putGroup 50 = .ok (.aload_n 0, 1) := dk_42 (dk_at dksX3_putGroup_2 3 rfl rfl)
theorem dX3_putGroup_51 : decode cX3_putGroup 51 = .ok (.aload_n 0, 1) := dk_42 (dk_at dksX3_putGroup_2 4 rfl rfl)
theorem dX3_putGroup_52 : decode cX3_putGroup 52 = .ok (.aload_n 0, 1) := dk_42 (dk_at dksX3_putGroup_2 5 rfl rfl)
theorem dX3_putGroup_53 : decode cX3_putGroup 53 = .ok (.getfield 78, 3) := dk_180 0 78 (dk_at dksX3_putGroup_2 6 rfl rfl)
theorem dX3_putGroup_56 : decode cX3_putGroup 56 = .ok (.iload_n 1, 1) := dk_27 (dk_at dksX3_putGroup_2 9 rfl rfl)
theorem dX3_putGroup_57 : decode cX3_putGroup 57 = .ok (.iaload, 1) := dk_46 (dk_at dksX3_putGroup_2 10 rfl rfl)
theorem dX3_putGroup_58 : decode cX3_putGroup 58 = .ok (.iconst 1, 1) := dk_4 (dk_at dksX3_putGroup_2 11 rfl rfl)
theorem dX3_putGroup_59 : decode cX3_putGroup 59 = .ok (.invokevirtual 205, 3) := dk_182 0 205 (dk_at dksX3_putGroup_2 12 rfl rfl)
theorem dX3_putGroup_62 : decode cX3_putGroup 62 = .ok (.invokevirtual 354, 3) := dk_182 1 98 (dk_at dksX3_putGroup_2 15 rfl rfl)
theorem dX3_putGroup_65 : decode cX3_putGroup 65 = .ok (.aload_n 0, 1) := dk_42 (dk_at dksX3_putGroup_2 18 rfl rfl)
theorem dX3_putGroup_66 : decode cX3_putGroup 66 = .ok (.getfield 69, 3) := dk_180 0 69 (dk_at dksX3_putGroup_2 19 rfl rfl)
theorem dX3_putGroup_69 : decode cX3_putGroup 69 = .ok (.iload_n 1, 1) := dk_27 (dk_at dksX3_putGroup_2 22 rfl rfl)
theorem dX3_putGroup_70 : decode cX3_putGroup 70 = .ok (.iaload, 1) := dk_46 (dk_at dksX3_putGroup_2 23 rfl rfl)
theorem dX3_putGroup_71 : decode cX3_putGroup 71 = .ok (.istore_n 2, 1) := dk_61 (dk_at dksX3_putGroup_3 0 rfl rfl)
theorem dX3_putGroup_72 : decode cX3_putGroup 72 = .ok (.iload_n 2, 1) := dk_28 (dk_at dksX3_putGroup_3 1 rfl rfl)
theorem dX3_putGroup_73 : decode cX3_putGroup 73 = .ok (.aload_n 0, 1) := dk_42 (dk_at dksX3_putGroup_3 2 rfl rfl)
theorem dX3_putGroup_74 : decode cX3_putGroup 74 = .ok (.getfield 72, 3) := dk_180 0 72 (dk_at dksX3_putGroup_3 3 rfl rfl)
theorem dX3_putGroup_77 : decode cX3_putGroup 77 = .ok (.iload_n 1, 1) := dk_27 (dk_at dksX3_putGroup_3 6 rfl rfl)
theorem dX3_putGroup_78 : decode cX3_putGroup 78 = .ok (.iaload, 1) := dk_46 (dk_at dksX3_putGroup_3 7 rfl rfl)
theorem dX3_putGroup_79 : decode cX3_putGroup 79 = .ok (.if_icmp .gt 33, 3) := dk_163 0 33 (dk_at dksX3_putGroup_3 8 rfl rfl)
theorem dX3_putGroup_82 : decode cX3_putGroup 82 = .ok (.iload_n 2, 1) := dk_28 (dk_at dksX3_putGroup_3 11 rfl rfl)
theorem dX3_putGroup_83 : decode cX3_putGroup 83 = .ok (.iconst (-1), 1) := dk_2 (dk_at dksX3_putGroup_3 12 rfl rfl)
theorem dX3_putGroup_84 : decode cX3_putGroup 84 = .ok (.if_icmp .eq 28, 3) := dk_159 0 28 (dk_at dksX3_putGroup_3 13 rfl rfl)
theorem dX3_putGroup_87 : decode cX3_putGroup 87 = .ok (.aload_n 0, 1) := dk_42 (dk_at dksX3_putGroup_3 16 rfl rfl)
theorem dX3_putGroup_88 : decode cX3_putGroup 88 = .ok (.bipush 32, 2) := dk_16 32 (dk_at dksX3_putGroup_3 17 rfl rfl)
theorem dX3_putGroup_90 : decode cX3_putGroup 90 = .ok (.invokevirtual 330, 3) := dk_182 1 74 (dk_at dksX3_putGroup_3 19 rfl rfl)
theorem dX3_putGroup_93 : decode cX3_putGroup 93 = .ok (.aload_n 0, 1) := dk_42 (dk_at dksX3_putGroup_3 22 rfl rfl)
theorem dX3_putGroup_94 : decode cX3_putGroup 94 = .ok (.aload_n 0, 1) := dk_42 (dk_at dksX3_putGroup_3 23 rfl rfl)
theorem dX3_putGroup_95 : decode cX3_putGroup 95 = .ok (.aload_n 0, 1) := dk_42 (dk_at dksX3_putGroup_4 0 rfl rfl)
theorem dX3_putGroup_96 : decode cX3_putGroup 96 = .ok (.invokevirtual 164, 3) := dk_182 0 164 (dk_at dksX3_putGroup_4 1 rfl rfl)
theorem dX3_putGroup_99 : decode cX3_putGroup 99 = .ok (.iload_n 2, 1) := dk_28 (dk_at dksX3_putGroup_4 4 rfl rfl)
theorem dX3_putGroup_100 : decode cX3_putGroup 100 = .ok (.invokevirtual 181, 3) := dk_182 0 181 (dk_at dksX3_putGroup_4 5 rfl rfl)
theorem dX3_putGroup_103 : decode cX3_putGroup 103 = .ok (.invokevirtual 350, 3) := dk_182 1 94 (dk_at dksX3_putGroup_4 8 rfl rfl)
theorem dX3_putGroup_106 : decode cX3_putGroup 106 = .ok (.iinc 2 1, 3) := dk_132 2 1 (dk_at dksX3_putGroup_4 11 rfl rfl)
theorem dX3_putGroup_109 : decode cX3_putGroup 109 = .ok (.goto (-37), 3) := dk_167 255 219 (dk_at dksX3_putGroup_4 14 rfl rfl)
theorem dX3_putGroup_112 : decode cX3_putGroup 112 = .ok (.aload_n 0, 1) := dk_42 (dk_at dksX3_putGroup_4 17 rfl rfl)
theorem dX3_putGroup_113 : decode cX3_putGroup 113 = .ok (.getfield 75, 3) := dk_180 0 75 (dk_at dksX3_putGroup_4 18 rfl rfl)
theorem dX3_putGroup_116 : decode cX3_putGroup 116 = .ok (.iload_n 1, 1) := dk_27 (dk_at dksX3_putGroup_4 21 rfl rfl)
theorem dX3_putGroup_117 : decode cX3_putGroup 117 = .ok (.iaload, 1) := dk_46 (dk_at dksX3_putGroup_4 22 rfl rfl)
theorem dX3_putGroup_118 : decode cX3_putGroup 118 = .ok (.istore_n 2, 1) := dk_61 (dk_at dksX3_putGroup_4 23 rfl rfl)
theorem dX3_putGroup_119 : decode cX3_putGroup 119 = .ok (.aload_n 0, 1) := dk_42 (dk_at dksX3_putGroup_5 0 rfl rfl)
theorem dX3_putGroup_120 : decode cX3_putGroup 120 = .ok (.iload_n 2, 1) := dk_28 (dk_at dksX3_putGroup_5 1 rfl rfl)
theorem dX3_putGroup_121 : decode cX3_putGroup 121 = .ok (.iconst 5, 1) := dk_8 (dk_at dksX3_putGroup_5 2 rfl rfl)
theorem dX3_putGroup_122 : decode cX3_putGroup 122 = .ok (.invokevirtual 205, 3) := dk_182 0 205 (dk_at dksX3_putGroup_5 3 rfl rfl)
theorem dX3_putGroup_125 : decode cX3_putGroup 125 = .ok (.ifCond .le 9, 3) := dk_158 0 9 (dk_at dksX3_putGroup_5 6 rfl rfl)
theorem dX3_putGroup_128 : decode cX3_putGroup 128 = .ok (.aload_n 0, 1) := dk_42 (dk_at dksX3_putGroup_5 9 rfl rfl)
theorem dX3_putGroup_129 : decode cX3_putGroup 129 = .ok (.bipush 58, 2) := dk_16 58 (dk_at dksX3_putGroup_5 10 rfl rfl)
theorem dX3_putGroup_131 : decode cX3_putGroup 131 = .ok (.invokevirtual 330, 3) := dk_182 1 74 (dk_at dksX3_putGroup_5 12 rfl rfl)
theorem dX3_putGroup_134 : decode cX3_putGroup 134 = .ok (.iconst 0, 1) := dk_3 (dk_at dksX3_putGroup_5 15 rfl rfl)
theorem dX3_putGroup_135 : decode cX3_putGroup 135 = .ok (.istore_n 3, 1) := dk_62 (dk_at dksX3_putGroup_5 16 rfl rfl)
theorem dX3_putGroup_136 : decode cX3_putGroup 136 = .ok (.iload_n 3, 1) := dk_29 (dk_at dksX3_putGroup_5 17 rfl rfl)
theorem dX3_putGroup_137 : decode cX3_putGroup 137 = .ok (.aload_n 0, 1) := dk_42 (dk_at dksX3_putGroup_5 18 rfl rfl)
theorem dX3_putGroup_138 : decode cX3_putGroup 138 = .ok (.iload_n 2, 1) := dk_28 (dk_at dksX3_putGroup_5 19 rfl rfl)
theorem dX3_putGroup_139 : decode cX3_putGroup 139 = .ok (.iconst 5, 1) := dk_8 (dk_at dksX3_putGroup_5 20 rfl rfl)
theorem dX3_putGroup_140 : decode cX3_putGroup 140 = .ok (.invokevirtual 205, 3) := dk_182 0 205 (dk_at dksX3_putGroup_5 21 rfl rfl)
theorem dX3_putGroup_143 : decode cX3_putGroup 143 = .ok (.if_icmp .ge 25, 3) := dk_162 0 25 (dk_at dksX3_putGroup_6 0 rfl rfl)
theorem dX3_putGroup_146 : decode cX3_putGroup 146 = .ok (.aload_n 0, 1) := dk_42 (dk_at dksX3_putGroup_6 3 rfl rfl)
theorem dX3_putGroup_147 : decode cX3_putGroup 147 = .ok (.bipush 32, 2) := dk_16 32 (dk_at dksX3_putGroup_6 4 rfl rfl)
theorem dX3_putGroup_149 : decode cX3_putGroup 149 = .ok (.invokevirtual 330, 3) := dk_182 1 74 (dk_at dksX3_putGroup_6 6 rfl rfl)
theorem dX3_putGroup_152 : decode cX3_putGroup 152 = .ok (.aload_n 0, 1) := dk_42 (dk_at dksX3_putGroup_6 9 rfl rfl)
theorem dX3_putGroup_153 : decode cX3_putGroup 153 = .ok (.aload_n 0, 1) := dk_42 (dk_at dksX3_putGroup_6 10 rfl rfl)
theorem dX3_putGroup_154 : decode cX3_putGroup 154 = .ok (.iload_n 2, 1) := dk_28 (dk_at dksX3_putGroup_6 11 rfl rfl)
theorem dX3_putGroup_155 : decode cX3_putGroup 155 = .ok (.iload_n 3, 1) := dk_29 (dk_at dksX3_putGroup_6 12 rfl rfl)
theorem dX3_putGroup_156 : decode cX3_putGroup 156 = .ok (.invokevirtual 265, 3) := dk_182 1 9 (dk_at dksX3_putGroup_6 13 rfl rfl)
theorem dX3_putGroup_159 : decode cX3_putGroup 159 = .ok (.invokevirtual 350, 3) := dk_182 1 94 (dk_at dksX3_putGroup_6 16 rfl rfl)
theorem dX3_putGroup_162 : decode cX3_putGroup 162 = .ok (.iinc 3 1, 3) := dk_132 3 1 (dk_at dksX3_putGroup_6 19 rfl rfl)
theorem dX3_putGroup_165 : decode cX3_putGroup 165 = .ok (.goto (-29), 3) := dk_167 255 227 (dk_at dksX3_putGroup_7 0 rfl rfl)
theorem dX3_putGroup_168 : decode cX3_putGroup 168 = .ok (.return_, 1) := dk_177 (dk_at dksX3_putGroup_7 3 rfl rfl)
abbrev cX3_putWord : ByteArray := prog_16_method_97_code
def yX3_putWord : MethodName := ⟨RX3, "putWord", "(J)V"⟩
def dkwX3_putWord_1 : List UInt8 := [167, 255, 236, 177]
abbrev dktX3_putWord_1 : List UInt8 := dkwX3_putWord_1 ++ []
def dkwX3_putWord_0 : List UInt8 := [3, 62, 29, 31, 184, 0, 134, 162, 0, 18, 42, 31, 29, 184, 0, 201, 182, 1, 74, 132, 3, 1]
abbrev dktX3_putWord_0 : List UInt8 := dkwX3_putWord_0 ++ dktX3_putWord_1
theorem dksX3_putWord_0 : cX3_putWord.data.toList.drop 0 = dktX3_putWord_0 := by decide +kernel
theorem dksX3_putWord_1 : cX3_putWord.data.toList.drop 22 = dktX3_putWord_1 := dk_seg dksX3_putWord_0 22 rfl rfl
theorem dX3_putWord_0 : decode cX3_putWord 0 = .ok (.iconst 0, 1) := dk_3 (dk_at dksX3_putWord_0 0 rfl rfl)
theorem dX3_putWord_1 : decode cX3_putWord 1 = .ok (.istore_n 3, 1) := dk_62 (dk_at dksX3_putWord_0 1 rfl rfl)
theorem dX3_putWord_2 : decode cX3_putWord 2 = .ok (.iload_n 3, 1) := dk_29 (dk_at dksX3_putWord_0 2 rfl rfl)
theorem dX3_putWord_3 : decode cX3_putWord 3 = .ok (.lload_n 1, 1) := dk_31 (dk_at dksX3_putWord_0 3 rfl rfl)
theorem dX3_putWord_4 : decode cX3_putWord 4 = .ok (.invokestatic 134, 3) := dk_184 0 134 (dk_at dksX3_putWord_0 4 rfl rfl)
theorem dX3_putWord_7 : decode cX3_putWord 7 = .ok (.if_icmp .ge 18, 3) := dk_162 0 18 (dk_at dksX3_putWord_0 7 rfl rfl)
theorem dX3_putWord_10 : decode cX3_putWord 10 = .ok (.aload_n 0, 1) := dk_42 (dk_at dksX3_putWord_0 10 rfl rfl)
theorem dX3_putWord_11 : decode cX3_putWord 11 = .ok (.lload_n 1, 1) := dk_31 (dk_at dksX3_putWord_0 11 rfl rfl)
theorem dX3_putWord_12 : decode cX3_putWord 12 = .ok (.iload_n 3, 1) := dk_29 (dk_at dksX3_putWord_0 12 rfl rfl)
theorem dX3_putWord_13 : decode cX3_putWord 13 = .ok (.invokestatic 201, 3) := dk_184 0 201 (dk_at dksX3_putWord_0 13 rfl rfl)
theorem dX3_putWord_16 : decode cX3_putWord 16 = .ok (.invokevirtual 330, 3) := dk_182 1 74 (dk_at dksX3_putWord_0 16 rfl rfl)
theorem dX3_putWord_19 : decode cX3_putWord 19 = .ok (.iinc 3 1, 3) := dk_132 3 1 (dk_at dksX3_putWord_0 19 rfl rfl)
theorem dX3_putWord_22 : decode cX3_putWord 22 = .ok (.goto (-20), 3) := dk_167 255 236 (dk_at dksX3_putWord_1 0 rfl rfl)
theorem dX3_putWord_25 : decode cX3_putWord 25 = .ok (.return_, 1) := dk_177 (dk_at dksX3_putWord_1 3 rfl rfl)
abbrev cX3_put : ByteArray := prog_16_method_96_code
def yX3_put : MethodName := ⟨RX3, "put", "(I)V"⟩
def dkwX3_put_0 : List UInt8 := [42, 180, 0, 93, 42, 180, 1, 71, 27, 79, 42, 89, 180, 1, 71, 4, 96, 181, 1, 71, 177]
abbrev dktX3_put_0 : List UInt8 := dkwX3_put_0 ++ []
theorem dksX3_put_0 : cX3_put.data.toList.drop 0 = dktX3_put_0 := by decide +kernel
theorem dX3_put_0 : decode cX3_put 0 = .ok (.aload_n 0, 1) := dk_42 (dk_at dksX3_put_0 0 rfl rfl)
theorem dX3_put_1 : decode cX3_put 1 = .ok (.getfield 93, 3) := dk_180 0 93 (dk_at dksX3_put_0 1 rfl rfl)
theorem dX3_put_4 : decode cX3_put 4 = .ok (.aload_n 0, 1) := dk_42 (dk_at dksX3_put_0 4 rfl rfl)
theorem dX3_put_5 : decode cX3_put 5 = .ok (.getfield 327, 3) := dk_180 1 71 (dk_at dksX3_put_0 5 rfl rfl)
theorem dX3_put_8 : decode cX3_put 8 = .ok (.iload_n 1, 1) := dk_27 (dk_at dksX3_put_0 8 rfl rfl)
theorem dX3_put_9 : decode cX3_put 9 = .ok (.iastore, 1) := dk_79 (dk_at dksX3_put_0 9 rfl rfl)
theorem dX3_put_10 : decode cX3_put 10 = .ok (.aload_n 0, 1) := dk_42 (dk_at dksX3_put_0 10 rfl rfl)
theorem dX3_put_11 : decode cX3_put 11 = .ok (.dup, 1) := dk_89 (dk_at dksX3_put_0 11 rfl rfl)
theorem dX3_put_12 : decode cX3_put 12 = .ok (.getfield 327, 3) := dk_180 1 71 (dk_at dksX3_put_0 12 rfl rfl)
theorem dX3_put_15 : decode cX3_put 15 = .ok (.iconst 1, 1) := dk_4 (dk_at dksX3_put_0 15 rfl rfl)
theorem dX3_put_16 : decode cX3_put 16 = .ok (.iadd, 1) := dk_96 (dk_at dksX3_put_0 16 rfl rfl)
theorem dX3_put_17 : decode cX3_put 17 = .ok (.putfield 327, 3) := dk_181 1 71 (dk_at dksX3_put_0 17 rfl rfl)
theorem dX3_put_20 : decode cX3_put 20 = .ok (.return_, 1) := dk_177 (dk_at dksX3_put_0 20 rfl rfl)
abbrev cX3_putKind : ByteArray := prog_16_method_98_code
def yX3_putKind : MethodName := ⟨RX3, "putKind", "(I)V"⟩
def dkwX3_putKind_2 : List UInt8 := [44, 29, 182, 1, 90, 182, 1, 74, 132, 3, 1, 167, 255, 236, 177]
abbrev dktX3_putKind_2 : List UInt8 := dkwX3_putKind_2 ++ []
def dkwX3_putKind_1 : List UInt8 := [160, 0, 9, 19, 1, 81, 167, 0, 6, 19, 1, 83, 77, 3, 62, 29, 44, 182, 1, 85, 162, 0, 18, 42]
abbrev dktX3_putKind_1 : List UInt8 := dkwX3_putKind_1 ++ dktX3_putKind_2
def dkwX3_putKind_0 : List UInt8 := [27, 154, 0, 9, 19, 1, 77, 167, 0, 28, 27, 4, 160, 0, 9, 19, 1, 79, 167, 0, 17, 27, 5]
abbrev dktX3_putKind_0 : List UInt8 := dkwX3_putKind_0 ++ dktX3_putKind_1
theorem dksX3_putKind_0 : cX3_putKind.data.toList.drop 0 = dktX3_putKind_0 := by decide +kernel
theorem dksX3_putKind_1 : cX3_putKind.data.toList.drop 23 = dktX3_putKind_1 := dk_seg dksX3_putKind_0 23 rfl rfl
theorem dksX3_putKind_2 : cX3_putKind.data.toList.drop 47 = dktX3_putKind_2 := dk_seg dksX3_putKind_1 24 rfl rfl
theorem dX3_putKind_0 : decode cX3_putKind 0 = .ok (.iload_n 1, 1) := dk_27 (dk_at dksX3_putKind_0 0 rfl rfl)
theorem dX3_putKind_1 : decode cX3_putKind 1 = .ok (.ifCond .ne 9, 3) := dk_154 0 9 (dk_at dksX3_putKind_0 1 rfl rfl)
theorem dX3_putKind_4 : decode cX3_putKind 4 = .ok (.ldc_w 333, 3) := dk_19 1 77 (dk_at dksX3_putKind_0 4 rfl rfl)
theorem dX3_putKind_7 : decode cX3_putKind 7 = .ok (.goto 28, 3) := dk_167 0 28 (dk_at dksX3_putKind_0 7 rfl rfl)
theorem dX3_putKind_10 : decode cX3_putKind 10 = .ok (.iload_n 1, 1) := dk_27 (dk_at dksX3_putKind_0 10 rfl rfl)
theorem dX3_putKind_11 : decode cX3_putKind 11 = .ok (.iconst 1, 1) := dk_4 (dk_at dksX3_putKind_0 11 rfl rfl)
theorem dX3_putKind_12 : decode cX3_putKind 12 = .ok (.if_icmp .ne 9, 3) := dk_160 0 9 (dk_at dksX3_putKind_0 12 rfl rfl)
theorem dX3_putKind_15 : decode cX3_putKind 15 = .ok (.ldc_w 335, 3) := dk_19 1 79 (dk_at dksX3_putKind_0 15 rfl rfl)
theorem dX3_putKind_18 : decode cX3_putKind 18 = .ok (.goto 17, 3) := dk_167 0 17 (dk_at dksX3_putKind_0 18 rfl rfl)
theorem dX3_putKind_21 : decode cX3_putKind 21 = .ok (.iload_n 1, 1) := dk_27 (dk_at dksX3_putKind_0 21 rfl rfl)
theorem dX3_putKind_22 : decode cX3_putKind 22 = .ok (.iconst 2, 1) := dk_5 (dk_at dksX3_putKind_0 22 rfl rfl)
theorem dX3_putKind_23 : decode cX3_putKind 23 = .ok (.if_icmp .ne 9, 3) := dk_160 0 9 (dk_at dksX3_putKind_1 0 rfl rfl)
theorem dX3_putKind_26 : decode cX3_putKind 26 = .ok (.ldc_w 337, 3) := dk_19 1 81 (dk_at dksX3_putKind_1 3 rfl rfl)
theorem dX3_putKind_29 : decode cX3_putKind 29 = .ok (.goto 6, 3) := dk_167 0 6 (dk_at dksX3_putKind_1 6 rfl rfl)
theorem dX3_putKind_32 : decode cX3_putKind 32 = .ok (.ldc_w 339, 3) := dk_19 1 83 (dk_at dksX3_putKind_1 9 rfl rfl)
theorem dX3_putKind_35 : decode cX3_putKind 35 = .ok (.astore_n 2, 1) := dk_77 (dk_at dksX3_putKind_1 12 rfl rfl)
theorem dX3_putKind_36 : decode cX3_putKind 36 = .ok (.iconst 0, 1) := dk_3 (dk_at dksX3_putKind_1 13 rfl rfl)
theorem dX3_putKind_37 : decode cX3_putKind 37 = .ok (.istore_n 3, 1) := dk_62 (dk_at dksX3_putKind_1 14 rfl rfl)
theorem dX3_putKind_38 : decode cX3_putKind 38 = .ok (.iload_n 3, 1) := dk_29 (dk_at dksX3_putKind_1 15 rfl rfl)
theorem dX3_putKind_39 : decode cX3_putKind 39 = .ok (.aload_n 2, 1) := dk_44 (dk_at dksX3_putKind_1 16 rfl rfl)
theorem dX3_putKind_40 : decode cX3_putKind 40 = .ok (.invokevirtual 341, 3) := dk_182 1 85 (dk_at dksX3_putKind_1 17 rfl rfl)
theorem dX3_putKind_43 : decode cX3_putKind 43 = .ok (.if_icmp .ge 18, 3) := dk_162 0 18 (dk_at dksX3_putKind_1 20 rfl rfl)
theorem dX3_putKind_46 : decode cX3_putKind 46 = .ok (.aload_n 0, 1) := dk_42 (dk_at dksX3_putKind_1 23 rfl rfl)
theorem dX3_putKind_47 : decode cX3_putKind 47 = .ok (.aload_n 2, 1) := dk_44 (dk_at dksX3_putKind_2 0 rfl rfl)
theorem dX3_putKind_48 : decode cX3_putKind 48 = .ok (.iload_n 3, 1) := dk_29 (dk_at dksX3_putKind_2 1 rfl rfl)
theorem dX3_putKind_49 : decode cX3_putKind 49 = .ok (.invokevirtual 346, 3) := dk_182 1 90 (dk_at dksX3_putKind_2 2 rfl rfl)
theorem dX3_putKind_52 : decode cX3_putKind 52 = .ok (.invokevirtual 330, 3) := dk_182 1 74 (dk_at dksX3_putKind_2 5 rfl rfl)
theorem dX3_putKind_55 : decode cX3_putKind 55 = .ok (.iinc 3 1, 3) := dk_132 3 1 (dk_at dksX3_putKind_2 8 rfl rfl)
theorem dX3_putKind_58 : decode cX3_putKind 58 = .ok (.goto (-20), 3) := dk_167 255 236 (dk_at dksX3_putKind_2 11 rfl rfl)
theorem dX3_putKind_61 : decode cX3_putKind 61 = .ok (.return_, 1) := dk_177 (dk_at dksX3_putKind_2 14 rfl rfl)
abbrev cX3_outputByte : ByteArray := prog_16_method_101_code
def yX3_outputByte : MethodName := ⟨RX3, "outputByte", "(I)I"⟩
def dkwX3_outputByte_1 : List UInt8 := [180, 0, 93, 27, 46, 167, 0, 4, 2, 172]
abbrev dktX3_outputByte_1 : List UInt8 := dkwX3_outputByte_1 ++ []
def dkwX3_outputByte_0 : List UInt8 := [42, 3, 181, 0, 100, 27, 156, 0, 9, 42, 4, 182, 0, 141, 172, 27, 42, 180, 1, 71, 162, 0, 12, 42]
abbrev dktX3_outputByte_0 : List UInt8 := dkwX3_outputByte_0 ++ dktX3_outputByte_1
theorem dksX3_outputByte_0 : cX3_outputByte.data.toList.drop 0 = dktX3_outputByte_0 := by decide +kernel
theorem dksX3_outputByte_1 : cX3_outputByte.data.toList.drop 24 = dktX3_outputByte_1 := dk_seg dksX3_outputByte_0 24 rfl rfl
theorem dX3_outputByte_0 : decode cX3_outputByte 0 = .ok (.aload_n 0, 1) := dk_42 (dk_at dksX3_outputByte_0 0 rfl rfl)
theorem dX3_outputByte_1 : decode cX3_outputByte 1 = .ok (.iconst 0, 1) := dk_3 (dk_at dksX3_outputByte_0 1 rfl rfl)
theorem dX3_outputByte_2 : decode cX3_outputByte 2 = .ok (.putfield 100, 3) := dk_181 0 100 (dk_at dksX3_outputByte_0 2 rfl rfl)
theorem dX3_outputByte_5 : decode cX3_outputByte 5 = .ok (.iload_n 1, 1) := dk_27 (dk_at dksX3_outputByte_0 5 rfl rfl)
theorem dX3_outputByte_6 : decode cX3_outputByte 6 = .ok (.ifCond .ge 9, 3) := dk_156 0 9 (dk_at dksX3_outputByte_0 6 rfl rfl)
theorem dX3_outputByte_9 : decode cX3_outputByte 9 = .ok (.aload_n 0, 1) := dk_42 (dk_at dksX3_outputByte_0 9 rfl rfl)
theorem dX3_outputByte_10 : decode cX3_outputByte 10 = .ok (.iconst 1, 1) := dk_4 (dk_at dksX3_outputByte_0 10 rfl rfl)
theorem dX3_outputByte_11 : decode cX3_outputByte 11 = .ok (.invokevirtual 141, 3) := dk_182 0 141 (dk_at dksX3_outputByte_0 11 rfl rfl)
theorem dX3_outputByte_14 : decode cX3_outputByte 14 = .ok (.ireturn, 1) := dk_172 (dk_at dksX3_outputByte_0 14 rfl rfl)
theorem dX3_outputByte_15 : decode cX3_outputByte 15 = .ok (.iload_n 1, 1) := dk_27 (dk_at dksX3_outputByte_0 15 rfl rfl)
theorem dX3_outputByte_16 : decode cX3_outputByte 16 = .ok (.aload_n 0, 1) := dk_42 (dk_at dksX3_outputByte_0 16 rfl rfl)
theorem dX3_outputByte_17 : decode cX3_outputByte 17 = .ok (.getfield 327, 3) := dk_180 1 71 (dk_at dksX3_outputByte_0 17 rfl rfl)
theorem dX3_outputByte_20 : decode cX3_outputByte 20 = .ok (.if_icmp .ge 12, 3) := dk_162 0 12 (dk_at dksX3_outputByte_0 20 rfl rfl)
theorem dX3_outputByte_23 : decode cX3_outputByte 23 = .ok (.aload_n 0, 1) := dk_42 (dk_at dksX3_outputByte_0 23 rfl rfl)
theorem dX3_outputByte_24 : decode cX3_outputByte 24 = .ok (.getfield 93, 3) := dk_180 0 93 (dk_at dksX3_outputByte_1 0 rfl rfl)
theorem dX3_outputByte_27 : decode cX3_outputByte 27 = .ok (.iload_n 1, 1) := dk_27 (dk_at dksX3_outputByte_1 3 rfl rfl)
theorem dX3_outputByte_28 : decode cX3_outputByte 28 = .ok (.iaload, 1) := dk_46 (dk_at dksX3_outputByte_1 4 rfl rfl)
theorem dX3_outputByte_29 : decode cX3_outputByte 29 = .ok (.goto 4, 3) := dk_167 0 4 (dk_at dksX3_outputByte_1 5 rfl rfl)
theorem dX3_outputByte_32 : decode cX3_outputByte 32 = .ok (.iconst (-1), 1) := dk_2 (dk_at dksX3_outputByte_1 8 rfl rfl)
theorem dX3_outputByte_33 : decode cX3_outputByte 33 = .ok (.ireturn, 1) := dk_172 (dk_at dksX3_outputByte_1 9 rfl rfl)
abbrev cX3_importText : ByteArray := prog_16_method_120_code
def yX3_importText : MethodName := ⟨RX3, "importText", "()I"⟩
def dkwX3_importText_4 : List UInt8 := [180, 0, 7, 3, 184, 1, 208, 42, 180, 0, 23, 3, 42, 180, 0, 19, 3, 184, 1, 212, 2, 172, 27, 172]
abbrev dktX3_importText_4 : List UInt8 := dkwX3_importText_4 ++ []
def dkwX3_importText_3 : List UInt8 := [132, 1, 1, 167, 255, 235, 42, 3, 181, 0, 138, 42, 182, 1, 130, 154, 0, 31, 42, 180, 0, 13, 3, 42]
abbrev dktX3_importText_3 : List UInt8 := dkwX3_importText_3 ++ dktX3_importText_4
def dkwX3_importText_2 : List UInt8 := [182, 1, 134, 3, 60, 42, 182, 1, 130, 153, 0, 20, 42, 180, 1, 120, 153, 0, 13, 42, 182, 1, 216]
abbrev dktX3_importText_2 : List UInt8 := dkwX3_importText_2 ++ dktX3_importText_3
def dkwX3_importText_1 : List UInt8 := [180, 0, 23, 3, 184, 1, 212, 42, 3, 181, 1, 127, 42, 2, 181, 0, 96, 42, 3, 181, 1, 104, 42]
abbrev dktX3_importText_1 : List UInt8 := dkwX3_importText_1 ++ dktX3_importText_2
def dkwX3_importText_0 : List UInt8 := [42, 3, 181, 0, 100, 42, 180, 0, 7, 3, 42, 180, 0, 13, 3, 184, 1, 208, 42, 180, 0, 19, 3, 42]
abbrev dktX3_importText_0 : List UInt8 := dkwX3_importText_0 ++ dktX3_importText_1
theorem dksX3_importText_0 : cX3_importText.data.toList.drop 0 = dktX3_importText_0 := by decide +kernel
theorem dksX3_importText_1 : cX3_importText.data.toList.drop 24 = dktX3_importText_1 := dk_seg dksX3_importText_0 24 rfl rfl
theorem dksX3_importText_2 : cX3_importText.data.toList.drop 47 = dktX3_importText_2 := dk_seg dksX3_importText_1 23 rfl rfl
theorem dksX3_importText_3 : cX3_importText.data.toList.drop 70 = dktX3_importText_3 := dk_seg dksX3_importText_2 23 rfl rfl
theorem dksX3_importText_4 : cX3_importText.data.toList.drop 94 = dktX3_importText_4 := dk_seg dksX3_importText_3 24 rfl rfl
theorem dX3_importText_0 : decode cX3_importText 0 = .ok (.aload_n 0, 1) := dk_42 (dk_at dksX3_importText_0 0 rfl rfl)
theorem dX3_importText_1 : decode cX3_importText 1 = .ok (.iconst 0, 1) := dk_3 (dk_at dksX3_importText_0 1 rfl rfl)
theorem dX3_importText_2 : decode cX3_importText 2 = .ok (.putfield 100, 3) := dk_181 0 100 (dk_at dksX3_importText_0 2 rfl rfl)
theorem dX3_importText_5 : decode cX3_importText 5 = .ok (.aload_n 0, 1) := dk_42 (dk_at dksX3_importText_0 5 rfl rfl)
theorem dX3_importText_6 : decode cX3_importText 6 = .ok (.getfield 7, 3) := dk_180 0 7 (dk_at dksX3_importText_0 6 rfl rfl)
theorem dX3_importText_9 : decode cX3_importText 9 = .ok (.iconst 0, 1) := dk_3 (dk_at dksX3_importText_0 9 rfl rfl)
theorem dX3_importText_10 : decode cX3_importText 10 = .ok (.aload_n 0, 1) := dk_42 (dk_at dksX3_importText_0 10 rfl rfl)
theorem dX3_importText_11 : decode cX3_importText 11 = .ok (.getfield 13, 3) := dk_180 0 13 (dk_at dksX3_importText_0 11 rfl rfl)
theorem dX3_importText_14 : decode cX3_importText 14 = .ok (.iconst 0, 1) := dk_3 (dk_at dksX3_importText_0 14 rfl rfl)
theorem dX3_importText_15 : decode cX3_importText 15 = .ok (.invokestatic 464, 3) := dk_184 1 208 (dk_at dksX3_importText_0 15 rfl rfl)
theorem dX3_importText_18 : decode cX3_importText 18 = .ok (.aload_n 0, 1) := dk_42 (dk_at dksX3_importText_0 18 rfl rfl)
theorem dX3_importText_19 : decode cX3_importText 19 = .ok (.getfield 19, 3) := dk_180 0 19 (dk_at dksX3_importText_0 19 rfl rfl)
theorem dX3_importText_22 : decode cX3_importText 22 = .ok (.iconst 0, 1) := dk_3 (dk_at dksX3_importText_0 22 rfl rfl)
theorem dX3_importText_23 : decode cX3_importText 23 = .ok (.aload_n 0, 1) := dk_42 (dk_at dksX3_importText_0 23 rfl rfl)
theorem dX3_importText_24 : decode cX3_importText 24 = .ok (.getfield 23, 3) := dk_180 0 23 (dk_at dksX3_importText_1 0 rfl rfl)
theorem dX3_importText_27 : decode cX3_importText 27 = .ok (.iconst 0, 1) := dk_3 (dk_at dksX3_importText_1 3 rfl rfl)
theorem dX3_importText_28 : decode cX3_importText 28 = .ok (.invokestatic 468, 3) := dk_184 1 212 (dk_at dksX3_importText_1 4 rfl rfl)
theorem dX3_importText_31 : decode cX3_importText 31 = .ok (.aload_n 0, 1) := dk_42 (dk_at dksX3_importText_1 7 rfl rfl)
theorem dX3_importText_32 : decode cX3_importText 32 = .ok (.iconst 0, 1) := dk_3 (dk_at dksX3_importText_1 8 rfl rfl)
theorem dX3_importText_33 : decode cX3_importText 33 = .ok (.putfield 383, 3) := dk_181 1 127 (dk_at dksX3_importText_1 9 rfl rfl)
theorem dX3_importText_36 : decode cX3_importText 36 = .ok (.aload_n 0, 1) := dk_42 (dk_at dksX3_importText_1 12 rfl rfl)
theorem dX3_importText_37 : decode cX3_importText 37 = .ok (.iconst (-1), 1) := dk_2 (dk_at dksX3_importText_1 13 rfl rfl)
theorem dX3_importText_38 : decode cX3_importText 38 = .ok (.putfield 96, 3) := dk_181 0 96 (dk_at dksX3_importText_1 14 rfl rfl)
theorem dX3_importText_41 : decode cX3_importText 41 = .ok (.aload_n 0, 1) := dk_42 (dk_at dksX3_importText_1 17 rfl rfl)
theorem dX3_importText_42 : decode cX3_importText 42 = .ok (.iconst 0, 1) := dk_3 (dk_at dksX3_importText_1 18 rfl rfl)
theorem dX3_importText_43 : decode cX3_importText 43 = .ok (.putfield 360, 3) := dk_181 1 104 (dk_at dksX3_importText_1 19 rfl rfl)
theorem dX3_importText_46 : decode cX3_importText 46 = .ok (.aload_n 0, 1) := dk_42 (dk_at dksX3_importText_1 22 rfl rfl)
theorem dX3_importText_47 : decode cX3_importText 47 = .ok (.invokevirtual 390, 3) := dk_182 1 134 (dk_at dksX3_importText_2 0 rfl rfl)
theorem dX3_importText_50 : decode cX3_importText 50 = .ok (.iconst 0, 1) := dk_3 (dk_at dksX3_importText_2 3 rfl rfl)
theorem dX3_importText_51 : decode cX3_importText 51 = .ok (.istore_n 1, 1) := dk_60 (dk_at dksX3_importText_2 4 rfl rfl)
theorem dX3_importText_52 : decode cX3_importText 52 = .ok (.aload_n 0, 1) := dk_42 (dk_at dksX3_importText_2 5 rfl rfl)
theorem dX3_importText_53 : decode cX3_importText 53 = .ok (.invokevirtual 386, 3) := dk_182 1 130 (dk_at dksX3_importText_2 6 rfl rfl)
theorem dX3_importText_56 : decode cX3_importText 56 = .ok (.ifCond .eq 20, 3) := dk_153 0 20 (dk_at dksX3_importText_2 9 rfl rfl)
theorem dX3_importText_59 : decode cX3_importText 59 = .ok (.aload_n 0, 1) := dk_42 (dk_at dksX3_importText_2 12 rfl rfl)
theorem dX3_importText_60 : decode cX3_importText 60 = .ok (.getfield 376, 3) := dk_180 1 120 (dk_at dksX3_importText_2 13 rfl rfl)
theorem dX3_importText_63 : decode cX3_importText 63 = .ok (.ifCond .eq 13, 3) := dk_153 0 13 (dk_at dksX3_importText_2 16 rfl rfl)
theorem dX3_importText_66 : decode cX3_importText 66 = .ok (.aload_n 0, 1) := dk_42 (dk_at dksX3_importText_2 19 rfl rfl)
theorem dX3_importText_67 : decode cX3_importText 67 = .ok (.invokevirtual 472, 3) := dk_182 1 216 (dk_at dksX3_importText_2 20 rfl rfl)
theorem dX3_importText_70 : decode cX3_importText 70 = .ok (.iinc 1 1, 3) := dk_132 1 1 (dk_at dksX3_importText_3 0 rfl rfl)
theorem dX3_importText_73 : decode cX3_importText 73 = .ok (.goto (-21), 3) := dk_167 255 235 (dk_at dksX3_importText_3 3 rfl rfl)
theorem dX3_importText_76 : decode cX3_importText 76 = .ok (.aload_n 0, 1) := dk_42 (dk_at dksX3_importText_3 6 rfl rfl)
theorem dX3_importText_77 : decode cX3_importText 77 = .ok (.iconst 0, 1) := dk_3 (dk_at dksX3_importText_3 7 rfl rfl)
theorem dX3_importText_78 : decode cX3_importText 78 = .ok (.putfield 138, 3) := dk_181 0 138 (dk_at dksX3_importText_3 8 rfl rfl)
theorem dX3_importText_81 : decode cX3_importText 81 = .ok (.aload_n 0, 1) := dk_42 (dk_at dksX3_importText_3 11 rfl rfl)
theorem dX3_importText_82 : decode cX3_importText 82 = .ok (.invokevirtual 386, 3) := dk_182 1 130 (dk_at dksX3_importText_3 12 rfl rfl)
theorem dX3_importText_85 : decode cX3_importText 85 = .ok (.ifCond .ne 31, 3) := dk_154 0 31 (dk_at dksX3_importText_3 15 rfl rfl)
theorem dX3_importText_88 : decode cX3_importText 88 = .ok (.aload_n 0, 1) := dk_42 (dk_at dksX3_importText_3 18 rfl rfl)
theorem dX3_importText_89 : decode cX3_importText 89 = .ok (.getfield 13, 3) := dk_180 0 13 (dk_at dksX3_importText_3 19 rfl rfl)
theorem dX3_importText_92 : decode cX3_importText 92 = .ok (.iconst 0, 1) := dk_3 (dk_at dksX3_importText_3 22 rfl rfl)
theorem dX3_importText_93 : decode cX3_importText 93 = .ok (.aload_n 0, 1) := dk_42 (dk_at dksX3_importText_3 23 rfl rfl)
theorem dX3_importText_94 : decode cX3_importText 94 = .ok (.getfield 7, 3) := dk_180 0 7 (dk_at dksX3_importText_4 0 rfl rfl)
theorem dX3_importText_97 : decode cX3_importText 97 = .ok (.iconst 0, 1) := dk_3 (dk_at dksX3_importText_4 3 rfl rfl)
theorem dX3_importText_98 : decode cX3_importText 98 = .ok (.invokestatic 464, 3) := dk_184 1 208 (dk_at dksX3_importText_4 4 rfl rfl)
theorem dX3_importText_101 : decode cX3_importText 101 = .ok (.aload_n 0, 1) := dk_42 (dk_at dksX3_importText_4 7 rfl rfl)
theorem dX3_importText_102 : decode cX3_importText 102 = .ok (.getfield 23, 3) := dk_180 0 23 (dk_at dksX3_importText_4 8 rfl rfl)
theorem dX3_importText_105 : decode cX3_importText 105 = .ok (.iconst 0, 1) := dk_3 (dk_at dksX3_importText_4 11 rfl rfl)
theorem dX3_importText_106 : decode cX3_importText 106 = .ok (.aload_n 0, 1) := dk_42 (dk_at dksX3_importText_4 12 rfl rfl)
theorem dX3_importText_107 : decode cX3_importText 107 = .ok (.getfield 19, 3) := dk_180 0 19 (dk_at dksX3_importText_4 13 rfl rfl)
theorem dX3_importText_110 : decode cX3_importText 110 = .ok (.iconst 0, 1) := dk_3 (dk_at dksX3_importText_4 16 rfl rfl)
theorem dX3_importText_111 : decode cX3_importText 111 = .ok (.invokestatic 468, 3) := dk_184 1 212 (dk_at dksX3_importText_4 17 rfl rfl)
theorem dX3_importText_114 : decode cX3_importText 114 = .ok (.iconst (-1), 1) := dk_2 (dk_at dksX3_importText_4 20 rfl rfl)
theorem dX3_importText_115 : decode cX3_importText 115 = .ok (.ireturn, 1) := dk_172 (dk_at dksX3_importText_4 21 rfl rfl)
theorem dX3_importText_116 : decode cX3_importText 116 = .ok (.iload_n 1, 1) := dk_27 (dk_at dksX3_importText_4 22 rfl rfl)
theorem dX3_importText_117 : decode cX3_importText 117 = .ok (.ireturn, 1) := dk_172 (dk_at dksX3_importText_4 23 rfl rfl)
abbrev cX3_copy : ByteArray := prog_16_method_5_code
def yX3_copy : MethodName := ⟨RX3, "copy", "([II[II)V"⟩
def dkwX3_copy_1 : List UInt8 := [132, 4, 1, 167, 255, 233, 177]
abbrev dktX3_copy_1 : List UInt8 := dkwX3_copy_1 ++ []
def dkwX3_copy_0 : List UInt8 := [3, 54, 4, 21, 4, 17, 2, 102, 162, 0, 21, 44, 29, 21, 4, 96, 42, 27, 21, 4, 96, 46, 79]
abbrev dktX3_copy_0 : List UInt8 := dkwX3_copy_0 ++ dktX3_copy_1
theorem dksX3_copy_0 : cX3_copy.data.toList.drop 0 = dktX3_copy_0 := by decide +kernel
theorem dksX3_copy_1 : cX3_copy.data.toList.drop 23 = dktX3_copy_1 := dk_seg dksX3_copy_0 23 rfl rfl
theorem dX3_copy_0 : decode cX3_copy 0 = .ok (.iconst 0, 1) := dk_3 (dk_at dksX3_copy_0 0 rfl rfl)
theorem dX3_copy_1 : decode cX3_copy 1 = .ok (.istore 4, 2) := dk_54 4 (dk_at dksX3_copy_0 1 rfl rfl)
theorem dX3_copy_3 : decode cX3_copy 3 = .ok (.iload 4, 2) := dk_21 4 (dk_at dksX3_copy_0 3 rfl rfl)
theorem dX3_copy_5 : decode cX3_copy 5 = .ok (.sipush 614, 3) := dk_17 2 102 (dk_at dksX3_copy_0 5 rfl rfl)
theorem dX3_copy_8 : decode cX3_copy 8 = .ok (.if_icmp .ge 21, 3) := dk_162 0 21 (dk_at dksX3_copy_0 8 rfl rfl)
theorem dX3_copy_11 : decode cX3_copy 11 = .ok (.aload_n 2, 1) := dk_44 (dk_at dksX3_copy_0 11 rfl rfl)
theorem dX3_copy_12 : decode cX3_copy 12 = .ok (.iload_n 3, 1) := dk_29 (dk_at dksX3_copy_0 12 rfl rfl)
theorem dX3_copy_13 : decode cX3_copy 13 = .ok (.iload 4, 2) := dk_21 4 (dk_at dksX3_copy_0 13 rfl rfl)
theorem dX3_copy_15 : decode cX3_copy 15 = .ok (.iadd, 1) := dk_96 (dk_at dksX3_copy_0 15 rfl rfl)
theorem dX3_copy_16 : decode cX3_copy 16 = .ok (.aload_n 0, 1) := dk_42 (dk_at dksX3_copy_0 16 rfl rfl)
theorem dX3_copy_17 : decode cX3_copy 17 = .ok (.iload_n 1, 1) := dk_27 (dk_at dksX3_copy_0 17 rfl rfl)
theorem dX3_copy_18 : decode cX3_copy 18 = .ok (.iload 4, 2) := dk_21 4 (dk_at dksX3_copy_0 18 rfl rfl)
theorem dX3_copy_20 : decode cX3_copy 20 = .ok (.iadd, 1) := dk_96 (dk_at dksX3_copy_0 20 rfl rfl)
theorem dX3_copy_21 : decode cX3_copy 21 = .ok (.iaload, 1) := dk_46 (dk_at dksX3_copy_0 21 rfl rfl)
theorem dX3_copy_22 : decode cX3_copy 22 = .ok (.iastore, 1) := dk_79 (dk_at dksX3_copy_0 22 rfl rfl)
theorem dX3_copy_23 : decode cX3_copy 23 = .ok (.iinc 4 1, 3) := dk_132 4 1 (dk_at dksX3_copy_1 0 rfl rfl)
theorem dX3_copy_26 : decode cX3_copy 26 = .ok (.goto (-23), 3) := dk_167 255 233 (dk_at dksX3_copy_1 3 rfl rfl)
theorem dX3_copy_29 : decode cX3_copy 29 = .ok (.return_, 1) := dk_177 (dk_at dksX3_copy_1 6 rfl rfl)
abbrev cX3_copyWords : ByteArray := prog_16_method_6_code
def yX3_copyWords : MethodName := ⟨RX3, "copyWords", "([JI[JI)V"⟩
def dkwX3_copyWords_1 : List UInt8 := [132, 4, 1, 167, 255, 233, 177]
abbrev dktX3_copyWords_1 : List UInt8 := dkwX3_copyWords_1 ++ []
def dkwX3_copyWords_0 : List UInt8 := [3, 54, 4, 21, 4, 17, 2, 94, 162, 0, 21, 44, 29, 21, 4, 96, 42, 27, 21, 4, 96, 47, 80]
abbrev dktX3_copyWords_0 : List UInt8 := dkwX3_copyWords_0 ++ dktX3_copyWords_1
theorem dksX3_copyWords_0 : cX3_copyWords.data.toList.drop 0 = dktX3_copyWords_0 := by decide +kernel
theorem dksX3_copyWords_1 : cX3_copyWords.data.toList.drop 23 = dktX3_copyWords_1 := dk_seg dksX3_copyWords_0 23 rfl rfl
theorem dX3_copyWords_0 : decode cX3_copyWords 0 = .ok (.iconst 0, 1) := dk_3 (dk_at dksX3_copyWords_0 0 rfl rfl)
theorem dX3_copyWords_1 : decode cX3_copyWords 1 = .ok (.istore 4, 2) := dk_54 4 (dk_at dksX3_copyWords_0 1 rfl rfl)
theorem dX3_copyWords_3 : decode cX3_copyWords 3 = .ok (.iload 4, 2) := dk_21 4 (dk_at dksX3_copyWords_0 3 rfl rfl)
theorem dX3_copyWords_5 : decode cX3_copyWords 5 = .ok (.sipush 606, 3) := dk_17 2 94 (dk_at dksX3_copyWords_0 5 rfl rfl)
theorem dX3_copyWords_8 : decode cX3_copyWords 8 = .ok (.if_icmp .ge 21, 3) := dk_162 0 21 (dk_at dksX3_copyWords_0 8 rfl rfl)
theorem dX3_copyWords_11 : decode cX3_copyWords 11 = .ok (.aload_n 2, 1) := dk_44 (dk_at dksX3_copyWords_0 11 rfl rfl)
theorem dX3_copyWords_12 : decode cX3_copyWords 12 = .ok (.iload_n 3, 1) := dk_29 (dk_at dksX3_copyWords_0 12 rfl rfl)
theorem dX3_copyWords_13 : decode cX3_copyWords 13 = .ok (.iload 4, 2) := dk_21 4 (dk_at dksX3_copyWords_0 13 rfl rfl)
theorem dX3_copyWords_15 : decode cX3_copyWords 15 = .ok (.iadd, 1) := dk_96 (dk_at dksX3_copyWords_0 15 rfl rfl)
theorem dX3_copyWords_16 : decode cX3_copyWords 16 = .ok (.aload_n 0, 1) := dk_42 (dk_at dksX3_copyWords_0 16 rfl rfl)
theorem dX3_copyWords_17 : decode cX3_copyWords 17 = .ok (.iload_n 1, 1) := dk_27 (dk_at dksX3_copyWords_0 17 rfl rfl)
theorem dX3_copyWords_18 : decode cX3_copyWords 18 = .ok (.iload 4, 2) := dk_21 4 (dk_at dksX3_copyWords_0 18 rfl rfl)
theorem dX3_copyWords_20 : decode cX3_copyWords 20 = .ok (.iadd, 1) := dk_96 (dk_at dksX3_copyWords_0 20 rfl rfl)
theorem dX3_copyWords_21 : decode cX3_copyWords 21 = .ok (.laload, 1) := dk_47 (dk_at dksX3_copyWords_0 21 rfl rfl)
theorem dX3_copyWords_22 : decode cX3_copyWords 22 = .ok (.lastore, 1) := dk_80 (dk_at dksX3_copyWords_0 22 rfl rfl)
theorem dX3_copyWords_23 : decode cX3_copyWords 23 = .ok (.iinc 4 1, 3) := dk_132 4 1 (dk_at dksX3_copyWords_1 0 rfl rfl)
theorem dX3_copyWords_26 : decode cX3_copyWords 26 = .ok (.goto (-23), 3) := dk_167 255 233 (dk_at dksX3_copyWords_1 3 rfl rfl)
theorem dX3_copyWords_29 : decode cX3_copyWords 29 = .ok (.return_, 1) := dk_177 (dk_at dksX3_copyWords_1 6 rfl rfl)
abbrev cX3_nextToken : ByteArray := prog_16_method_102_code
def yX3_nextToken : MethodName := ⟨RX3, "nextToken", "()V"⟩
def dkwX3_nextToken_12 : List UInt8 := [180, 1, 104, 4, 96, 181, 1, 104, 177]
abbrev dktX3_nextToken_12 : List UInt8 := dkwX3_nextToken_12 ++ []
def dkwX3_nextToken_11 : List UInt8 := [160, 0, 7, 8, 167, 0, 15, 27, 16, 34, 160, 0, 8, 16, 6, 167, 0, 4, 4, 181, 1, 120, 42, 89]
abbrev dktX3_nextToken_11 : List UInt8 := dkwX3_nextToken_11 ++ dktX3_nextToken_12
def dkwX3_nextToken_10 : List UInt8 := [4, 96, 181, 1, 104, 167, 255, 192, 42, 27, 16, 59, 160, 0, 7, 7, 167, 0, 25, 27, 16, 47]
abbrev dktX3_nextToken_10 : List UInt8 := dkwX3_nextToken_10 ++ dktX3_nextToken_11
def dkwX3_nextToken_9 : List UInt8 := [180, 1, 117, 104, 42, 42, 180, 1, 104, 182, 0, 147, 96, 16, 48, 100, 181, 1, 117, 42, 89, 180, 1, 104]
abbrev dktX3_nextToken_9 : List UInt8 := dkwX3_nextToken_9 ++ dktX3_nextToken_10
def dkwX3_nextToken_8 : List UInt8 := [153, 0, 102, 42, 42, 180, 1, 117, 19, 1, 126, 164, 0, 10, 42, 180, 1, 117, 167, 0, 22, 16, 10, 42]
abbrev dktX3_nextToken_8 : List UInt8 := dkwX3_nextToken_8 ++ dktX3_nextToken_9
def dkwX3_nextToken_7 : List UInt8 := [184, 1, 123, 153, 0, 75, 42, 6, 181, 1, 120, 42, 42, 180, 1, 104, 182, 0, 147, 184, 1, 123]
abbrev dktX3_nextToken_7 : List UInt8 := dkwX3_nextToken_7 ++ dktX3_nextToken_8
def dkwX3_nextToken_6 : List UInt8 := [42, 89, 180, 1, 110, 4, 96, 181, 1, 110, 42, 89, 180, 1, 104, 4, 96, 181, 1, 104, 167, 255, 180, 27]
abbrev dktX3_nextToken_6 : List UInt8 := dkwX3_nextToken_6 ++ dktX3_nextToken_7
def dkwX3_nextToken_5 : List UInt8 := [42, 42, 180, 1, 104, 182, 0, 147, 133, 97, 20, 0, 153, 101, 167, 0, 7, 42, 180, 1, 113, 181, 1, 113]
abbrev dktX3_nextToken_5 : List UInt8 := dkwX3_nextToken_5 ++ dktX3_nextToken_6
def dkwX3_nextToken_4 : List UInt8 := [184, 0, 150, 153, 0, 193, 42, 42, 180, 1, 110, 16, 12, 162, 0, 28, 20, 0, 132, 42, 180, 1, 113, 105]
abbrev dktX3_nextToken_4 : List UInt8 := dkwX3_nextToken_4 ++ dktX3_nextToken_5
def dkwX3_nextToken_3 : List UInt8 := [167, 0, 219, 27, 184, 0, 150, 153, 0, 87, 42, 5, 181, 1, 120, 42, 42, 180, 1, 104, 182, 0, 147]
abbrev dktX3_nextToken_3 : List UInt8 := dkwX3_nextToken_3 ++ dktX3_nextToken_4
def dkwX3_nextToken_2 : List UInt8 := [181, 1, 117, 42, 42, 180, 1, 104, 182, 0, 147, 60, 27, 2, 160, 0, 11, 42, 3, 181, 1, 120]
abbrev dktX3_nextToken_2 : List UInt8 := dkwX3_nextToken_2 ++ dktX3_nextToken_3
def dkwX3_nextToken_1 : List UInt8 := [167, 255, 232, 42, 42, 180, 1, 104, 181, 1, 107, 42, 3, 181, 1, 110, 42, 9, 181, 1, 113, 42, 3]
abbrev dktX3_nextToken_1 : List UInt8 := dkwX3_nextToken_1 ++ dktX3_nextToken_2
def dkwX3_nextToken_0 : List UInt8 := [42, 42, 180, 1, 104, 182, 0, 147, 184, 0, 155, 153, 0, 16, 42, 89, 180, 1, 104, 4, 96, 181, 1, 104]
abbrev dktX3_nextToken_0 : List UInt8 := dkwX3_nextToken_0 ++ dktX3_nextToken_1
theorem dksX3_nextToken_0 : cX3_nextToken.data.toList.drop 0 = dktX3_nextToken_0 := by decide +kernel
theorem dksX3_nextToken_1 : cX3_nextToken.data.toList.drop 24 = dktX3_nextToken_1 := dk_seg dksX3_nextToken_0 24 rfl rfl
theorem dksX3_nextToken_2 : cX3_nextToken.data.toList.drop 47 = dktX3_nextToken_2 := dk_seg dksX3_nextToken_1 23 rfl rfl
theorem dksX3_nextToken_3 : cX3_nextToken.data.toList.drop 69 = dktX3_nextToken_3 := dk_seg dksX3_nextToken_2 22 rfl rfl
theorem dksX3_nextToken_4 : cX3_nextToken.data.toList.drop 92 = dktX3_nextToken_4 := dk_seg dksX3_nextToken_3 23 rfl rfl
theorem dksX3_nextToken_5 : cX3_nextToken.data.toList.drop 116 = dktX3_nextToken_5 := dk_seg dksX3_nextToken_4 24 rfl rfl
theorem dksX3_nextToken_6 : cX3_nextToken.data.toList.drop 140 = dktX3_nextToken_6 := dk_seg dksX3_nextToken_5 24 rfl rfl
theorem dksX3_nextToken_7 : cX3_nextToken.data.toList.drop 164 = dktX3_nextToken_7 := dk_seg dksX3_nextToken_6 24 rfl rfl
theorem dksX3_nextToken_8 : cX3_nextToken.data.toList.drop 186 = dktX3_nextToken_8 := dk_seg dksX3_nextToken_7 22 rfl rfl
theorem dksX3_nextToken_9 : cX3_nextToken.data.toList.drop 210 = dktX3_nextToken_9 := dk_seg dksX3_nextToken_8 24 rfl rfl
theorem dksX3_nextToken_10 : cX3_nextToken.data.toList.drop 234 = dktX3_nextToken_10 := dk_seg dksX3_nextToken_9 24 rfl rfl
theorem dksX3_nextToken_11 : cX3_nextToken.data.toList.drop 256 = dktX3_nextToken_11 := dk_seg dksX3_nextToken_10 22 rfl rfl
theorem dksX3_nextToken_12 : cX3_nextToken.data.toList.drop 280 = dktX3_nextToken_12 := dk_seg dksX3_nextToken_11 24 rfl rfl
theorem dX3_nextToken_0 : decode cX3_nextToken 0 = .ok (.aload_n 0, 1) := dk_42 (dk_at dksX3_nextToken_0 0 rfl rfl)
theorem dX3_nextToken_1 : decode cX3_nextToken 1 = .ok (.aload_n 0, 1) := dk_42 (dk_at dksX3_nextToken_0 1 rfl rfl)
theorem dX3_nextToken_2 : decode cX3_nextToken 2 = .ok (.getfield 360, 3) := dk_180 1 104 (dk_at dksX3_nextToken_0 2 rfl rfl)
theorem dX3_nextToken_5 : decode cX3_nextToken 5 = .ok (.invokevirtual 147, 3) := dk_182 0 147 (dk_at dksX3_nextToken_0 5 rfl rfl)
theorem dX3_nextToken_8 : decode cX3_nextToken 8 = .ok (.invokestatic 155, 3) := dk_184 0 155 (dk_at dksX3_nextToken_0 8 rfl rfl)
theorem dX3_nextToken_11 : decode cX3_nextToken 11 = .ok (.ifCond .eq 16, 3) := dk_153 0 16 (dk_at dksX3_nextToken_0 11 rfl rfl)
theorem dX3_nextToken_14 : decode cX3_nextToken 14 = .ok (.aload_n 0, 1) := dk_42 (dk_at dksX3_nextToken_0 14 rfl rfl)
theorem dX3_nextToken_15 : decode cX3_nextToken 15 = .ok (.dup, 1) := dk_89 (dk_at dksX3_nextToken_0 15 rfl rfl)
theorem dX3_nextToken_16 : decode cX3_nextToken 16 = .ok (.getfield 360, 3) := dk_180 1 104 (dk_at dksX3_nextToken_0 16 rfl rfl)
theorem dX3_nextToken_19 : decode cX3_nextToken 19 = .ok (.iconst 1, 1) := dk_4 (dk_at dksX3_nextToken_0 19 rfl rfl)
theorem dX3_nextToken_20 : decode cX3_nextToken 20 = .ok (.iadd, 1) := dk_96 (dk_at dksX3_nextToken_0 20 rfl rfl)
theorem dX3_nextToken_21 : decode cX3_nextToken 21 = .ok (.putfield 360, 3) := dk_181 1 104 (dk_at dksX3_nextToken_0 21 rfl rfl)
theorem dX3_nextToken_24 : decode cX3_nextToken 24 = .ok (.goto (-24), 3) := dk_167 255 232 (dk_at dksX3_nextToken_1 0 rfl rfl)
theorem dX3_nextToken_27 : decode cX3_nextToken 27 = .ok (.aload_n 0, 1) := dk_42 (dk_at dksX3_nextToken_1 3 rfl rfl)
theorem dX3_nextToken_28 : decode cX3_nextToken 28 = .ok (.aload_n 0, 1) := dk_42 (dk_at dksX3_nextToken_1 4 rfl rfl)
theorem dX3_nextToken_29 : decode cX3_nextToken 29 = .ok (.getfield 360, 3) := dk_180 1 104 (dk_at dksX3_nextToken_1 5 rfl rfl)
theorem dX3_nextToken_32 : decode cX3_nextToken 32 = .ok (.putfield 363, 3) := dk_181 1 107 (dk_at dksX3_nextToken_1 8 rfl rfl)
theorem dX3_nextToken_35 : decode cX3_nextToken 35 = .ok (.aload_n 0, 1) := dk_42 (dk_at dksX3_nextToken_1 11 rfl rfl)
theorem dX3_nextToken_36 : decode cX3_nextToken 36 = .ok (.iconst 0, 1) := dk_3 (dk_at dksX3_nextToken_1 12 rfl rfl)
theorem dX3_nextToken_37 : decode cX3_nextToken 37 = .ok (.putfield 366, 3) := dk_181 1 110 (dk_at dksX3_nextToken_1 13 rfl rfl)
theorem dX3_nextToken_40 : decode cX3_nextToken 40 = .ok (.aload_n 0, 1) := dk_42 (dk_at dksX3_nextToken_1 16 rfl rfl)
theorem dX3_nextToken_41 : decode cX3_nextToken 41 = .ok (.lconst 0, 1) := dk_9 (dk_at dksX3_nextToken_1 17 rfl rfl)
theorem dX3_nextToken_42 : decode cX3_nextToken 42 = .ok (.putfield 369, 3) := dk_181 1 113 (dk_at dksX3_nextToken_1 18 rfl rfl)
theorem dX3_nextToken_45 : decode cX3_nextToken 45 = .ok (.aload_n 0, 1) := dk_42 (dk_at dksX3_nextToken_1 21 rfl rfl)
theorem dX3_nextToken_46 : decode cX3_nextToken 46 = .ok (.iconst 0, 1) := dk_3 (dk_at dksX3_nextToken_1 22 rfl rfl)
theorem dX3_nextToken_47 : decode cX3_nextToken 47 = .ok (.putfield 373, 3) := dk_181 1 117 (dk_at dksX3_nextToken_2 0 rfl rfl)
theorem dX3_nextToken_50 : decode cX3_nextToken 50 = .ok (.aload_n 0, 1) := dk_42 (dk_at dksX3_nextToken_2 3 rfl rfl)
theorem dX3_nextToken_51 : decode cX3_nextToken 51 = .ok (.aload_n 0, 1) := dk_42 (dk_at dksX3_nextToken_2 4 rfl rfl)
theorem dX3_nextToken_52 : decode cX3_nextToken 52 = .ok (.getfield 360, 3) := dk_180 1 104 (dk_at dksX3_nextToken_2 5 rfl rfl)
theorem dX3_nextToken_55 : decode cX3_nextToken 55 = .ok (.invokevirtual 147, 3) := dk_182 0 147 (dk_at dksX3_nextToken_2 8 rfl rfl)
theorem dX3_nextToken_58 : decode cX3_nextToken 58 = .ok (.istore_n 1, 1) := dk_60 (dk_at dksX3_nextToken_2 11 rfl rfl)
theorem dX3_nextToken_59 : decode cX3_nextToken 59 = .ok (.iload_n 1, 1) := dk_27 (dk_at dksX3_nextToken_2 12 rfl rfl)
theorem dX3_nextToken_60 : decode cX3_nextToken 60 = .ok (.iconst (-1), 1) := dk_2 (dk_at dksX3_nextToken_2 13 rfl rfl)
theorem dX3_nextToken_61 : decode cX3_nextToken 61 = .ok (.if_icmp .ne 11, 3) := dk_160 0 11 (dk_at dksX3_nextToken_2 14 rfl rfl)
theorem dX3_nextToken_64 : decode cX3_nextToken 64 = .ok (.aload_n 0, 1) := dk_42 (dk_at dksX3_nextToken_2 17 rfl rfl)
theorem dX3_nextToken_65 : decode cX3_nextToken 65 = .ok (.iconst 0, 1) := dk_3 (dk_at dksX3_nextToken_2 18 rfl rfl)
theorem dX3_nextToken_66 : decode cX3_nextToken 66 = .ok (.putfield 376, 3) := dk_181 1 120 (dk_at dksX3_nextToken_2 19 rfl rfl)
theorem dX3_nextToken_69 : decode cX3_nextToken 69 = .ok (.goto 219, 3) := dk_167 0 219 (dk_at dksX3_nextToken_3 0 rfl rfl)
theorem dX3_nextToken_72 : decode cX3_nextToken 72 = .ok (.iload_n 1, 1) := dk_27 (dk_at dksX3_nextToken_3 3 rfl rfl)
theorem dX3_nextToken_73 : decode cX3_nextToken 73 = .ok (.invokestatic 150, 3) := dk_184 0 150 (dk_at dksX3_nextToken_3 4 rfl rfl)
theorem dX3_nextToken_76 : decode cX3_nextToken 76 = .ok (.ifCond .eq 87, 3) := dk_153 0 87 (dk_at dksX3_nextToken_3 7 rfl rfl)
theorem dX3_nextToken_79 : decode cX3_nextToken 79 = .ok (.aload_n 0, 1) := dk_42 (dk_at dksX3_nextToken_3 10 rfl rfl)
theorem dX3_nextToken_80 : decode cX3_nextToken 80 = .ok (.iconst 2, 1) := dk_5 (dk_at dksX3_nextToken_3 11 rfl rfl)
theorem dX3_nextToken_81 : decode cX3_nextToken 81 = .ok (.putfield 376, 3) := dk_181 1 120 (dk_at dksX3_nextToken_3 12 rfl rfl)
theorem dX3_nextToken_84 : decode cX3_nextToken 84 = .ok (.aload_n 0, 1) := dk_42 (dk_at dksX3_nextToken_3 15 rfl rfl)
theorem dX3_nextToken_85 : decode cX3_nextToken 85 = .ok (.aload_n 0, 1) := dk_42 (dk_at dksX3_nextToken_3 16 rfl rfl)
theorem dX3_nextToken_86 : decode cX3_nextToken 86 = .ok (.getfield 360, 3) := dk_180 1 104 (dk_at dksX3_nextToken_3 17 rfl rfl)
theorem dX3_nextToken_89 : decode cX3_nextToken 89 = .ok (.invokevirtual 147, 3) := dk_182 0 147 (dk_at dksX3_nextToken_3 20 rfl rfl)
theorem dX3_nextToken_92 : decode cX3_nextToken 92 = .ok (.invokestatic 150, 3) := dk_184 0 150 (dk_at dksX3_nextToken_4 0 rfl rfl)
theorem dX3_nextToken_95 : decode cX3_nextToken 95 = .ok (.ifCond .eq 193, 3) := dk_153 0 193 (dk_at dksX3_nextToken_4 3 rfl rfl)
theorem dX3_nextToken_98 : decode cX3_nextToken 98 = .ok (.aload_n 0, 1) := dk_42 (dk_at dksX3_nextToken_4 6 rfl rfl)
theorem dX3_nextToken_99 : decode cX3_nextToken 99 = .ok (.aload_n 0, 1) := dk_42 (dk_at dksX3_nextToken_4 7 rfl rfl)
theorem dX3_nextToken_100 : decode cX3_nextToken 100 = .ok (.getfield 366, 3) := dk_180 1 110 (dk_at dksX3_nextToken_4 8 rfl rfl)
theorem dX3_nextToken_103 : decode cX3_nextToken 103 = .ok (.bipush 12, 2) := dk_16 12 (dk_at dksX3_nextToken_4 11 rfl rfl)
theorem dX3_nextToken_105 : decode cX3_nextToken 105 = .ok (.if_icmp .ge 28, 3) := dk_162 0 28 (dk_at dksX3_nextToken_4 13 rfl rfl)
theorem dX3_nextToken_108 : decode cX3_nextToken 108 = .ok (.ldc2_w 132, 3) := dk_20 0 132 (dk_at dksX3_nextToken_4 16 rfl rfl)
theorem dX3_nextToken_111 : decode cX3_nextToken 111 = .ok (.aload_n 0, 1) := dk_42 (dk_at dksX3_nextToken_4 19 rfl rfl)
theorem dX3_nextToken_112 : decode cX3_nextToken 112 = .ok (.getfield 369, 3) := dk_180 1 113 (dk_at dksX3_nextToken_4 20 rfl rfl)
theorem dX3_nextToken_115 : decode cX3_nextToken 115 = .ok (.lmul, 1) := dk_105 (dk_at dksX3_nextToken_4 23 rfl rfl)
theorem dX3_nextToken_116 : decode cX3_nextToken 116 = .ok (.aload_n 0, 1) := dk_42 (dk_at dksX3_nextToken_5 0 rfl rfl)
theorem dX3_nextToken_117 : decode cX3_nextToken 117 = .ok (.aload_n 0, 1) := dk_42 (dk_at dksX3_nextToken_5 1 rfl rfl)
theorem dX3_nextToken_118 : decode cX3_nextToken 118 = .ok (.getfield 360, 3) := dk_180 1 104 (dk_at dksX3_nextToken_5 2 rfl rfl)
theorem dX3_nextToken_121 : decode cX3_nextToken 121 = .ok (.invokevirtual 147, 3) := dk_182 0 147 (dk_at dksX3_nextToken_5 5 rfl rfl)
theorem dX3_nextToken_124 : decode cX3_nextToken 124 = .ok (.i2l, 1) := dk_133 (dk_at dksX3_nextToken_5 8 rfl rfl)
theorem dX3_nextToken_125 : decode cX3_nextToken 125 = .ok (.ladd, 1) := dk_97 (dk_at dksX3_nextToken_5 9 rfl rfl)
theorem dX3_nextToken_126 : decode cX3_nextToken 126 = .ok (.ldc2_w 153, 3) := dk_20 0 153 (dk_at dksX3_nextToken_5 10 rfl rfl)
theorem dX3_nextToken_129 : decode cX3_nextToken 129 = .ok (.lsub, 1) := dk_101 (dk_at dksX3_nextToken_5 13 rfl rfl)
theorem dX3_nextToken_130 : decode cX3_nextToken 130 = .ok (.goto 7, 3) := dk_167 0 7 (dk_at dksX3_nextToken_5 14 rfl rfl)
theorem dX3_nextToken_133 : decode cX3_nextToken 133 = .ok (.aload_n 0, 1) := dk_42 (dk_at dksX3_nextToken_5 17 rfl rfl)
theorem dX3_nextToken_134 : decode cX3_nextToken 134 = .ok (.getfield 369, 3) := dk_180 1 113 (dk_at dksX3_nextToken_5 18 rfl rfl)
theorem dX3_nextToken_137 : decode cX3_nextToken 137 = .ok (.putfield 369, 3) := dk_181 1 113 (dk_at dksX3_nextToken_5 21 rfl rfl)
theorem dX3_nextToken_140 : decode cX3_nextToken 140 = .ok (.aload_n 0, 1) := dk_42 (dk_at dksX3_nextToken_6 0 rfl rfl)
theorem dX3_nextToken_141 : decode cX3_nextToken 141 = .ok (.dup, 1) := dk_89 (dk_at dksX3_nextToken_6 1 rfl rfl)
theorem dX3_nextToken_142 : decode cX3_nextToken 142 = .ok (.getfield 366, 3) := dk_180 1 110 (dk_at dksX3_nextToken_6 2 rfl rfl)
theorem dX3_nextToken_145 : decode cX3_nextToken 145 = .ok (.iconst 1, 1) := dk_4 (dk_at dksX3_nextToken_6 5 rfl rfl)
theorem dX3_nextToken_146 : decode cX3_nextToken 146 = .ok (.iadd, 1) := dk_96 (dk_at dksX3_nextToken_6 6 rfl rfl)
theorem dX3_nextToken_147 : decode cX3_nextToken 147 = .ok (.putfield 366, 3) := dk_181 1 110 (dk_at dksX3_nextToken_6 7 rfl rfl)
theorem dX3_nextToken_150 : decode cX3_nextToken 150 = .ok (.aload_n 0, 1) := dk_42 (dk_at dksX3_nextToken_6 10 rfl rfl)
theorem dX3_nextToken_151 : decode cX3_nextToken 151 = .ok (.dup, 1) := dk_89 (dk_at dksX3_nextToken_6 11 rfl rfl)
theorem dX3_nextToken_152 : decode cX3_nextToken 152 = .ok (.getfield 360, 3) := dk_180 1 104 (dk_at dksX3_nextToken_6 12 rfl rfl)
theorem dX3_nextToken_155 : decode cX3_nextToken 155 = .ok (.iconst 1, 1) := dk_4 (dk_at dksX3_nextToken_6 15 rfl rfl)
theorem dX3_nextToken_156 : decode cX3_nextToken 156 = .ok (.iadd, 1) := dk_96 (dk_at dksX3_nextToken_6 16 rfl rfl)
theorem dX3_nextToken_157 : decode cX3_nextToken 157 = .ok (.putfield 360, 3) := dk_181 1 104 (dk_at dksX3_nextToken_6 17 rfl rfl)
theorem dX3_nextToken_160 : decode cX3_nextToken 160 = .ok (.goto (-76), 3) := dk_167 255 180 (dk_at dksX3_nextToken_6 20 rfl rfl)
theorem dX3_nextToken_163 : decode cX3_nextToken 163 = .ok (.iload_n 1, 1) := dk_27 (dk_at dksX3_nextToken_6 23 rfl rfl)
theorem dX3_nextToken_164 : decode cX3_nextToken 164 = .ok (.invokestatic 379, 3) := dk_184 1 123 (dk_at dksX3_nextToken_7 0 rfl rfl)
theorem dX3_nextToken_167 : decode cX3_nextToken 167 = .ok (.ifCond .eq 75, 3) := dk_153 0 75 (dk_at dksX3_nextToken_7 3 rfl rfl)
theorem dX3_nextToken_170 : decode cX3_nextToken 170 = .ok (.aload_n 0, 1) := dk_42 (dk_at dksX3_nextToken_7 6 rfl rfl)
theorem dX3_nextToken_171 : decode cX3_nextToken 171 = .ok (.iconst 3, 1) := dk_6 (dk_at dksX3_nextToken_7 7 rfl rfl)
theorem dX3_nextToken_172 : decode cX3_nextToken 172 = .ok (.putfield 376, 3) := dk_181 1 120 (dk_at dksX3_nextToken_7 8 rfl rfl)
theorem dX3_nextToken_175 : decode cX3_nextToken 175 = .ok (.aload_n 0, 1) := dk_42 (dk_at dksX3_nextToken_7 11 rfl rfl)
theorem dX3_nextToken_176 : decode cX3_nextToken 176 = .ok (.aload_n 0, 1) := dk_42 (dk_at dksX3_nextToken_7 12 rfl rfl)
theorem dX3_nextToken_177 : decode cX3_nextToken 177 = .ok (.getfield 360, 3) := dk_180 1 104 (dk_at dksX3_nextToken_7 13 rfl rfl)
theorem dX3_nextToken_180 : decode cX3_nextToken 180 = .ok (.invokevirtual 147, 3) := dk_182 0 147 (dk_at dksX3_nextToken_7 16 rfl rfl)
theorem dX3_nextToken_183 : decode cX3_nextToken 183 = .ok (.invokestatic 379, 3) := dk_184 1 123 (dk_at dksX3_nextToken_7 19 rfl rfl)
theorem dX3_nextToken_186 : decode cX3_nextToken 186 = .ok (.ifCond .eq 102, 3) := dk_153 0 102 (dk_at dksX3_nextToken_8 0 rfl rfl)
theorem dX3_nextToken_189 : decode cX3_nextToken 189 = .ok (.aload_n 0, 1) := dk_42 (dk_at dksX3_nextToken_8 3 rfl rfl)
theorem dX3_nextToken_190 : decode cX3_nextToken 190 = .ok (.aload_n 0, 1) := dk_42 (dk_at dksX3_nextToken_8 4 rfl rfl)
theorem dX3_nextToken_191 : decode cX3_nextToken 191 = .ok (.getfield 373, 3) := dk_180 1 117 (dk_at dksX3_nextToken_8 5 rfl rfl)
theorem dX3_nextToken_194 : decode cX3_nextToken 194 = .ok (.ldc_w 382, 3) := dk_19 1 126 (dk_at dksX3_nextToken_8 8 rfl rfl)
theorem dX3_nextToken_197 : decode cX3_nextToken 197 = .ok (.if_icmp .le 10, 3) := dk_164 0 10 (dk_at dksX3_nextToken_8 11 rfl rfl)
theorem dX3_nextToken_200 : decode cX3_nextToken 200 = .ok (.aload_n 0, 1) := dk_42 (dk_at dksX3_nextToken_8 14 rfl rfl)
theorem dX3_nextToken_201 : decode cX3_nextToken 201 = .ok (.getfield 373, 3) := dk_180 1 117 (dk_at dksX3_nextToken_8 15 rfl rfl)
theorem dX3_nextToken_204 : decode cX3_nextToken 204 = .ok (.goto 22, 3) := dk_167 0 22 (dk_at dksX3_nextToken_8 18 rfl rfl)
theorem dX3_nextToken_207 : decode cX3_nextToken 207 = .ok (.bipush 10, 2) := dk_16 10 (dk_at dksX3_nextToken_8 21 rfl rfl)
theorem dX3_nextToken_209 : decode cX3_nextToken 209 = .ok (.aload_n 0, 1) := dk_42 (dk_at dksX3_nextToken_8 23 rfl rfl)
theorem dX3_nextToken_210 : decode cX3_nextToken 210 = .ok (.getfield 373, 3) := dk_180 1 117 (dk_at dksX3_nextToken_9 0 rfl rfl)
theorem dX3_nextToken_213 : decode cX3_nextToken 213 = .ok (.imul, 1) := dk_104 (dk_at dksX3_nextToken_9 3 rfl rfl)
theorem dX3_nextToken_214 : decode cX3_nextToken 214 = .ok (.aload_n 0, 1) := dk_42 (dk_at dksX3_nextToken_9 4 rfl rfl)
theorem dX3_nextToken_215 : decode cX3_nextToken 215 = .ok (.aload_n 0, 1) := dk_42 (dk_at dksX3_nextToken_9 5 rfl rfl)
theorem dX3_nextToken_216 : decode cX3_nextToken 216 = .ok (.getfield 360, 3) := dk_180 1 104 (dk_at dksX3_nextToken_9 6 rfl rfl)
theorem dX3_nextToken_219 : decode cX3_nextToken 219 = .ok (.invokevirtual 147, 3) := dk_182 0 147 (dk_at dksX3_nextToken_9 9 rfl rfl)
theorem dX3_nextToken_222 : decode cX3_nextToken 222 = .ok (.iadd, 1) := dk_96 (dk_at dksX3_nextToken_9 12 rfl rfl)
theorem dX3_nextToken_223 : decode cX3_nextToken 223 = .ok (.bipush 48, 2) := dk_16 48 (dk_at dksX3_nextToken_9 13 rfl rfl)
theorem dX3_nextToken_225 : decode cX3_nextToken 225 = .ok (.isub, 1) := dk_100 (dk_at dksX3_nextToken_9 15 rfl rfl)
theorem dX3_nextToken_226 : decode cX3_nextToken 226 = .ok (.putfield 373, 3) := dk_181 1 117 (dk_at dksX3_nextToken_9 16 rfl rfl)
theorem dX3_nextToken_229 : decode cX3_nextToken 229 = .ok (.aload_n 0, 1) := dk_42 (dk_at dksX3_nextToken_9 19 rfl rfl)
theorem dX3_nextToken_230 : decode cX3_nextToken 230 = .ok (.dup, 1) := dk_89 (dk_at dksX3_nextToken_9 20 rfl rfl)
theorem dX3_nextToken_231 : decode cX3_nextToken 231 = .ok (.getfield 360, 3) := dk_180 1 104 (dk_at dksX3_nextToken_9 21 rfl rfl)
theorem dX3_nextToken_234 : decode cX3_nextToken 234 = .ok (.iconst 1, 1) := dk_4 (dk_at dksX3_nextToken_10 0 rfl rfl)
theorem dX3_nextToken_235 : decode cX3_nextToken 235 = .ok (.iadd, 1) := dk_96 (dk_at dksX3_nextToken_10 1 rfl rfl)
theorem dX3_nextToken_236 : decode cX3_nextToken 236 = .ok (.putfield 360, 3) := dk_181 1 104 (dk_at dksX3_nextToken_10 2 rfl rfl)
theorem dX3_nextToken_239 : decode cX3_nextToken 239 = .ok (.goto (-64), 3) := dk_167 255 192 (dk_at dksX3_nextToken_10 5 rfl rfl)
theorem dX3_nextToken_242 : decode cX3_nextToken 242 = .ok (.aload_n 0, 1) := dk_42 (dk_at dksX3_nextToken_10 8 rfl rfl)
theorem dX3_nextToken_243 : decode cX3_nextToken 243 = .ok (.iload_n 1, 1) := dk_27 (dk_at dksX3_nextToken_10 9 rfl rfl)
theorem dX3_nextToken_244 : decode cX3_nextToken 244 = .ok (.bipush 59, 2) := dk_16 59 (dk_at dksX3_nextToken_10 10 rfl rfl)
theorem dX3_nextToken_246 : decode cX3_nextToken 246 = .ok (.if_icmp .ne 7, 3) := dk_160 0 7 (dk_at dksX3_nextToken_10 12 rfl rfl)
theorem dX3_nextToken_249 : decode cX3_nextToken 249 = .ok (.iconst 4, 1) := dk_7 (dk_at dksX3_nextToken_10 15 rfl rfl)
theorem dX3_nextToken_250 : decode cX3_nextToken 250 = .ok (.goto 25, 3) := dk_167 0 25 (dk_at dksX3_nextToken_10 16 rfl rfl)
theorem dX3_nextToken_253 : decode cX3_nextToken 253 = .ok (.iload_n 1, 1) := dk_27 (dk_at dksX3_nextToken_10 19 rfl rfl)
theorem dX3_nextToken_254 : decode cX3_nextToken 254 = .ok (.bipush 47, 2) := dk_16 47 (dk_at dksX3_nextToken_10 20 rfl rfl)
theorem dX3_nextToken_256 : decode cX3_nextToken 256 = .ok (.if_icmp .ne 7, 3) := dk_160 0 7 (dk_at dksX3_nextToken_11 0 rfl rfl)
theorem dX3_nextToken_259 : decode cX3_nextToken 259 = .ok (.iconst 5, 1) := dk_8 (dk_at dksX3_nextToken_11 3 rfl rfl)
theorem dX3_nextToken_260 : decode cX3_nextToken 260 = .ok (.goto 15, 3) := dk_167 0 15 (dk_at dksX3_nextToken_11 4 rfl rfl)
theorem dX3_nextToken_263 : decode cX3_nextToken 263 = .ok (.iload_n 1, 1) := dk_27 (dk_at dksX3_nextToken_11 7 rfl rfl)
theorem dX3_nextToken_264 : decode cX3_nextToken 264 = .ok (.bipush 34, 2) := dk_16 34 (dk_at dksX3_nextToken_11 8 rfl rfl)
theorem dX3_nextToken_266 : decode cX3_nextToken 266 = .ok (.if_icmp .ne 8, 3) := dk_160 0 8 (dk_at dksX3_nextToken_11 10 rfl rfl)
theorem dX3_nextToken_269 : decode cX3_nextToken 269 = .ok (.bipush 6, 2) := dk_16 6 (dk_at dksX3_nextToken_11 13 rfl rfl)
theorem dX3_nextToken_271 : decode cX3_nextToken 271 = .ok (.goto 4, 3) := dk_167 0 4 (dk_at dksX3_nextToken_11 15 rfl rfl)
theorem dX3_nextToken_274 : decode cX3_nextToken 274 = .ok (.iconst 1, 1) := dk_4 (dk_at dksX3_nextToken_11 18 rfl rfl)
theorem dX3_nextToken_275 : decode cX3_nextToken 275 = .ok (.putfield 376, 3) := dk_181 1 120 (dk_at dksX3_nextToken_11 19 rfl rfl)
theorem dX3_nextToken_278 : decode cX3_nextToken 278 = .ok (.aload_n 0, 1) := dk_42 (dk_at dksX3_nextToken_11 22 rfl rfl)
theorem dX3_nextToken_279 : decode cX3_nextToken 279 = .ok (.dup, 1) := dk_89 (dk_at dksX3_nextToken_11 23 rfl rfl)
theorem dX3_nextToken_280 : decode cX3_nextToken 280 = .ok (.getfield 360, 3) := dk_180 1 104 (dk_at dksX3_nextToken_12 0 rfl rfl)
theorem dX3_nextToken_283 : decode cX3_nextToken 283 = .ok (.iconst 1, 1) := dk_4 (dk_at dksX3_nextToken_12 3 rfl rfl)
theorem dX3_nextToken_284 : decode cX3_nextToken 284 = .ok (.iadd, 1) := dk_96 (dk_at dksX3_nextToken_12 4 rfl rfl)
theorem dX3_nextToken_285 : decode cX3_nextToken 285 = .ok (.putfield 360, 3) := dk_181 1 104 (dk_at dksX3_nextToken_12 5 rfl rfl)
theorem dX3_nextToken_288 : decode cX3_nextToken 288 = .ok (.return_, 1) := dk_177 (dk_at dksX3_nextToken_12 8 rfl rfl)
abbrev cX3_isDigit : ByteArray := prog_16_method_28_code
def yX3_isDigit : MethodName := ⟨RX3, "isDigit", "(I)Z"⟩
def dkwX3_isDigit_0 : List UInt8 := [26, 16, 48, 16, 57, 184, 0, 111, 172]
abbrev dktX3_isDigit_0 : List UInt8 := dkwX3_isDigit_0 ++ []
theorem dksX3_isDigit_0 : cX3_isDigit.data.toList.drop 0 = dktX3_isDigit_0 := by decide +kernel
theorem dX3_isDigit_0 : decode cX3_isDigit 0 = .ok (.iload_n 0, 1) := dk_26 (dk_at dksX3_isDigit_0 0 rfl rfl)
theorem dX3_isDigit_1 : decode cX3_isDigit 1 = .ok (.bipush 48, 2) := dk_16 48 (dk_at dksX3_isDigit_0 1 rfl rfl)
theorem dX3_isDigit_3 : decode cX3_isDigit 3 = .ok (.bipush 57, 2) := dk_16 57 (dk_at dksX3_isDigit_0 3 rfl rfl)
theorem dX3_isDigit_5 : decode cX3_isDigit 5 = .ok (.invokestatic 111, 3) := dk_184 0 111 (dk_at dksX3_isDigit_0 5 rfl rfl)
theorem dX3_isDigit_8 : decode cX3_isDigit 8 = .ok (.ireturn, 1) := dk_172 (dk_at dksX3_isDigit_0 8 rfl rfl)
abbrev cX3_isFine : ByteArray := prog_16_method_105_code
def yX3_isFine : MethodName := ⟨RX3, "isFine", "()Z"⟩
def dkwX3_isFine_0 : List UInt8 := [42, 180, 1, 127, 154, 0, 7, 4, 167, 0, 4, 3, 172]
abbrev dktX3_isFine_0 : List UInt8 := dkwX3_isFine_0 ++ []
theorem dksX3_isFine_0 : cX3_isFine.data.toList.drop 0 = dktX3_isFine_0 := by decide +kernel
theorem dX3_isFine_0 : decode cX3_isFine 0 = .ok (.aload_n 0, 1) := dk_42 (dk_at dksX3_isFine_0 0 rfl rfl)
theorem dX3_isFine_1 : decode cX3_isFine 1 = .ok (.getfield 383, 3) := dk_180 1 127 (dk_at dksX3_isFine_0 1 rfl rfl)
theorem dX3_isFine_4 : decode cX3_isFine 4 = .ok (.ifCond .ne 7, 3) := dk_154 0 7 (dk_at dksX3_isFine_0 4 rfl rfl)
theorem dX3_isFine_7 : decode cX3_isFine 7 = .ok (.iconst 1, 1) := dk_4 (dk_at dksX3_isFine_0 7 rfl rfl)
theorem dX3_isFine_8 : decode cX3_isFine 8 = .ok (.goto 4, 3) := dk_167 0 4 (dk_at dksX3_isFine_0 8 rfl rfl)
theorem dX3_isFine_11 : decode cX3_isFine 11 = .ok (.iconst 0, 1) := dk_3 (dk_at dksX3_isFine_0 11 rfl rfl)
theorem dX3_isFine_12 : decode cX3_isFine 12 = .ok (.ireturn, 1) := dk_172 (dk_at dksX3_isFine_0 12 rfl rfl)
abbrev cX3_parseRecord : ByteArray := prog_16_method_119_code
def yX3_parseRecord : MethodName := ⟨RX3, "parseRecord", "()V"⟩
def dkwX3_parseRecord_5 : List UInt8 := [4, 182, 1, 137, 42, 182, 1, 141, 177]
abbrev dktX3_parseRecord_5 : List UInt8 := dkwX3_parseRecord_5 ++ []
def dkwX3_parseRecord_4 : List UInt8 := [167, 0, 9, 42, 180, 0, 7, 7, 46, 79, 42, 42, 180, 1, 120, 7, 160, 0, 7, 4, 167, 0, 4, 3]
abbrev dktX3_parseRecord_4 : List UInt8 := dkwX3_parseRecord_4 ++ dktX3_parseRecord_5
def dkwX3_parseRecord_3 : List UInt8 := [182, 0, 107, 4, 100, 182, 1, 148, 60, 42, 180, 0, 7, 7, 42, 182, 1, 130, 153, 0, 7, 27]
abbrev dktX3_parseRecord_3 : List UInt8 := dkwX3_parseRecord_3 ++ dktX3_parseRecord_4
def dkwX3_parseRecord_2 : List UInt8 := [167, 0, 54, 42, 42, 19, 1, 207, 182, 1, 144, 4, 182, 1, 137, 42, 182, 1, 141, 42, 3, 42]
abbrev dktX3_parseRecord_2 : List UInt8 := dkwX3_parseRecord_2 ++ dktX3_parseRecord_3
def dkwX3_parseRecord_1 : List UInt8 := [153, 0, 10, 42, 182, 1, 199, 167, 0, 71, 42, 19, 1, 202, 182, 1, 144, 153, 0, 10, 42, 182, 1, 204]
abbrev dktX3_parseRecord_1 : List UInt8 := dkwX3_parseRecord_1 ++ dktX3_parseRecord_2
def dkwX3_parseRecord_0 : List UInt8 := [42, 19, 1, 192, 182, 1, 144, 153, 0, 10, 42, 182, 1, 194, 167, 0, 88, 42, 19, 1, 197, 182, 1, 144]
abbrev dktX3_parseRecord_0 : List UInt8 := dkwX3_parseRecord_0 ++ dktX3_parseRecord_1
theorem dksX3_parseRecord_0 : cX3_parseRecord.data.toList.drop 0 = dktX3_parseRecord_0 := by decide +kernel
theorem dksX3_parseRecord_1 : cX3_parseRecord.data.toList.drop 24 = dktX3_parseRecord_1 := dk_seg dksX3_parseRecord_0 24 rfl rfl
theorem dksX3_parseRecord_2 : cX3_parseRecord.data.toList.drop 48 = dktX3_parseRecord_2 := dk_seg dksX3_parseRecord_1 24 rfl rfl
theorem dksX3_parseRecord_3 : cX3_parseRecord.data.toList.drop 70 = dktX3_parseRecord_3 := dk_seg dksX3_parseRecord_2 22 rfl rfl
theorem dksX3_parseRecord_4 : cX3_parseRecord.data.toList.drop 92 = dktX3_parseRecord_4 := dk_seg dksX3_parseRecord_3 22 rfl rfl
theorem dksX3_parseRecord_5 : cX3_parseRecord.data.toList.drop 116 = dktX3_parseRecord_5 := dk_seg dksX3_parseRecord_4 24 rfl rfl
theorem dX3_parseRecord_0 : decode cX3_parseRecord 0 = .ok (.aload_n 0, 1) := dk_42 (dk_at dksX3_parseRecord_0 0 rfl rfl)
theorem dX3_parseRecord_1 : decode cX3_parseRecord 1 = .ok (.ldc_w 448, 3) := dk_19 1 192 (dk_at dksX3_parseRecord_0 1 rfl rfl)
theorem dX3_parseRecord_4 : decode cX3_parseRecord 4 = .ok (.invokevirtual 400, 3) := dk_182 1 144 (dk_at dksX3_parseRecord_0 4 rfl rfl)
theorem dX3_parseRecord_7 : decode cX3_parseRecord 7 = .ok (.ifCond .eq 10, 3) := dk_153 0 10 (dk_at dksX3_parseRecord_0 7 rfl rfl)
theorem dX3_parseRecord_10 : decode cX3_parseRecord 10 = .ok (.aload_n 0, 1) := dk_42 (dk_at dksX3_parseRecord_0 10 rfl rfl)
theorem dX3_parseRecord_11 : decode cX3_parseRecord 11 = .ok (.invokevirtual 450, 3) := dk_182 1 194 (dk_at dksX3_parseRecord_0 11 rfl rfl)
theorem dX3_parseRecord_14 : decode cX3_parseRecord 14 = .ok (.goto 88, 3) := dk_167 0 88 (dk_at dksX3_parseRecord_0 14 rfl rfl)
theorem dX3_parseRecord_17 : decode cX3_parseRecord 17 = .ok (.aload_n 0, 1) := dk_42 (dk_at dksX3_parseRecord_0 17 rfl rfl)
theorem dX3_parseRecord_18 : decode cX3_parseRecord 18 = .ok (.ldc_w 453, 3) := dk_19 1 197 (dk_at dksX3_parseRecord_0 18 rfl rfl)
theorem dX3_parseRecord_21 : decode cX3_parseRecord 21 = .ok (.invokevirtual 400, 3) := dk_182 1 144 (dk_at dksX3_parseRecord_0 21 rfl rfl)
theorem dX3_parseRecord_24 : decode cX3_parseRecord 24 = .ok (.ifCond .eq 10, 3) := dk_153 0 10 (dk_at dksX3_parseRecord_1 0 rfl rfl)
theorem dX3_parseRecord_27 : decode cX3_parseRecord 27 = .ok (.aload_n 0, 1) := dk_42 (dk_at dksX3_parseRecord_1 3 rfl rfl)
theorem dX3_parseRecord_28 : decode cX3_parseRecord 28 = .ok (.invokevirtual 455, 3) := dk_182 1 199 (dk_at dksX3_parseRecord_1 4 rfl rfl)
theorem dX3_parseRecord_31 : decode cX3_parseRecord 31 = .ok (.goto 71, 3) := dk_167 0 71 (dk_at dksX3_parseRecord_1 7 rfl rfl)
theorem dX3_parseRecord_34 : decode cX3_parseRecord 34 = .ok (.aload_n 0, 1) := dk_42 (dk_at dksX3_parseRecord_1 10 rfl rfl)
theorem dX3_parseRecord_35 : decode cX3_parseRecord 35 = .ok (.ldc_w 458, 3) := dk_19 1 202 (dk_at dksX3_parseRecord_1 11 rfl rfl)
theorem dX3_parseRecord_38 : decode cX3_parseRecord 38 = .ok (.invokevirtual 400, 3) := dk_182 1 144 (dk_at dksX3_parseRecord_1 14 rfl rfl)
theorem dX3_parseRecord_41 : decode cX3_parseRecord 41 = .ok (.ifCond .eq 10, 3) := dk_153 0 10 (dk_at dksX3_parseRecord_1 17 rfl rfl)
theorem dX3_parseRecord_44 : decode cX3_parseRecord 44 = .ok (.aload_n 0, 1) := dk_42 (dk_at dksX3_parseRecord_1 20 rfl rfl)
theorem dX3_parseRecord_45 : decode cX3_parseRecord 45 = .ok (.invokevirtual 460, 3) := dk_182 1 204 (dk_at dksX3_parseRecord_1 21 rfl rfl)
theorem dX3_parseRecord_48 : decode cX3_parseRecord 48 = .ok (.goto 54, 3) := dk_167 0 54 (dk_at dksX3_parseRecord_2 0 rfl rfl)
theorem dX3_parseRecord_51 : decode cX3_parseRecord 51 = .ok (.aload_n 0, 1) := dk_42 (dk_at dksX3_parseRecord_2 3 rfl rfl)
theorem dX3_parseRecord_52 : decode cX3_parseRecord 52 = .ok (.aload_n 0, 1) := dk_42 (dk_at dksX3_parseRecord_2 4 rfl rfl)
theorem dX3_parseRecord_53 : decode cX3_parseRecord 53 = .ok (.ldc_w 463, 3) := dk_19 1 207 (dk_at dksX3_parseRecord_2 5 rfl rfl)
theorem dX3_parseRecord_56 : decode cX3_parseRecord 56 = .ok (.invokevirtual 400, 3) := dk_182 1 144 (dk_at dksX3_parseRecord_2 8 rfl rfl)
theorem dX3_parseRecord_59 : decode cX3_parseRecord 59 = .ok (.iconst 1, 1) := dk_4 (dk_at dksX3_parseRecord_2 11 rfl rfl)
theorem dX3_parseRecord_60 : decode cX3_parseRecord 60 = .ok (.invokevirtual 393, 3) := dk_182 1 137 (dk_at dksX3_parseRecord_2 12 rfl rfl)
theorem dX3_parseRecord_63 : decode cX3_parseRecord 63 = .ok (.aload_n 0, 1) := dk_42 (dk_at dksX3_parseRecord_2 15 rfl rfl)
theorem dX3_parseRecord_64 : decode cX3_parseRecord 64 = .ok (.invokevirtual 397, 3) := dk_182 1 141 (dk_at dksX3_parseRecord_2 16 rfl rfl)
theorem dX3_parseRecord_67 : decode cX3_parseRecord 67 = .ok (.aload_n 0, 1) := dk_42 (dk_at dksX3_parseRecord_2 19 rfl rfl)
theorem dX3_parseRecord_68 : decode cX3_parseRecord 68 = .ok (.iconst 0, 1) := dk_3 (dk_at dksX3_parseRecord_2 20 rfl rfl)
theorem dX3_parseRecord_69 : decode cX3_parseRecord 69 = .ok (.aload_n 0, 1) := dk_42 (dk_at dksX3_parseRecord_2 21 rfl rfl)
theorem dX3_parseRecord_70 : decode cX3_parseRecord 70 = .ok (.invokevirtual 107, 3) := dk_182 0 107 (dk_at dksX3_parseRecord_3 0 rfl rfl)
theorem dX3_parseRecord_73 : decode cX3_parseRecord 73 = .ok (.iconst 1, 1) := dk_4 (dk_at dksX3_parseRecord_3 3 rfl rfl)
theorem dX3_parseRecord_74 : decode cX3_parseRecord 74 = .ok (.isub, 1) := dk_100 (dk_at dksX3_parseRecord_3 4 rfl rfl)
theorem dX3_parseRecord_75 : decode cX3_parseRecord 75 = .ok (.invokevirtual 404, 3) := dk_182 1 148 (dk_at dksX3_parseRecord_3 5 rfl rfl)
theorem dX3_parseRecord_78 : decode cX3_parseRecord 78 = .ok (.istore_n 1, 1) := dk_60 (dk_at dksX3_parseRecord_3 8 rfl rfl)
theorem dX3_parseRecord_79 : decode cX3_parseRecord 79 = .ok (.aload_n 0, 1) := dk_42 (dk_at dksX3_parseRecord_3 9 rfl rfl)
theorem dX3_parseRecord_80 : decode cX3_parseRecord 80 = .ok (.getfield 7, 3) := dk_180 0 7 (dk_at dksX3_parseRecord_3 10 rfl rfl)
theorem dX3_parseRecord_83 : decode cX3_parseRecord 83 = .ok (.iconst 4, 1) := dk_7 (dk_at dksX3_parseRecord_3 13 rfl rfl)
theorem dX3_parseRecord_84 : decode cX3_parseRecord 84 = .ok (.aload_n 0, 1) := dk_42 (dk_at dksX3_parseRecord_3 14 rfl rfl)
theorem dX3_parseRecord_85 : decode cX3_parseRecord 85 = .ok (.invokevirtual 386, 3) := dk_182 1 130 (dk_at dksX3_parseRecord_3 15 rfl rfl)
theorem dX3_parseRecord_88 : decode cX3_parseRecord 88 = .ok (.ifCond .eq 7, 3) := dk_153 0 7 (dk_at dksX3_parseRecord_3 18 rfl rfl)
theorem dX3_parseRecord_91 : decode cX3_parseRecord 91 = .ok (.iload_n 1, 1) := dk_27 (dk_at dksX3_parseRecord_3 21 rfl rfl)
theorem dX3_parseRecord_92 : decode cX3_parseRecord 92 = .ok (.goto 9, 3) := dk_167 0 9 (dk_at dksX3_parseRecord_4 0 rfl rfl)
theorem dX3_parseRecord_95 : decode cX3_parseRecord 95 = .ok (.aload_n 0, 1) := dk_42 (dk_at dksX3_parseRecord_4 3 rfl rfl)
theorem dX3_parseRecord_96 : decode cX3_parseRecord 96 = .ok (.getfield 7, 3) := dk_180 0 7 (dk_at dksX3_parseRecord_4 4 rfl rfl)
theorem dX3_parseRecord_99 : decode cX3_parseRecord 99 = .ok (.iconst 4, 1) := dk_7 (dk_at dksX3_parseRecord_4 7 rfl rfl)
theorem dX3_parseRecord_100 : decode cX3_parseRecord 100 = .ok (.iaload, 1) := dk_46 (dk_at dksX3_parseRecord_4 8 rfl rfl)
theorem dX3_parseRecord_101 : decode cX3_parseRecord 101 = .ok (.iastore, 1) := dk_79 (dk_at dksX3_parseRecord_4 9 rfl rfl)
theorem dX3_parseRecord_102 : decode cX3_parseRecord 102 = .ok (.aload_n 0, 1) := dk_42 (dk_at dksX3_parseRecord_4 10 rfl rfl)
theorem dX3_parseRecord_103 : decode cX3_parseRecord 103 = .ok (.aload_n 0, 1) := dk_42 (dk_at dksX3_parseRecord_4 11 rfl rfl)
theorem dX3_parseRecord_104 : decode cX3_parseRecord 104 = .ok (.getfield 376, 3) := dk_180 1 120 (dk_at dksX3_parseRecord_4 12 rfl rfl)
theorem dX3_parseRecord_107 : decode cX3_parseRecord 107 = .ok (.iconst 4, 1) := dk_7 (dk_at dksX3_parseRecord_4 15 rfl rfl)
theorem dX3_parseRecord_108 : decode cX3_parseRecord 108 = .ok (.if_icmp .ne 7, 3) := dk_160 0 7 (dk_at dksX3_parseRecord_4 16 rfl rfl)
theorem dX3_parseRecord_111 : decode cX3_parseRecord 111 = .ok (.iconst 1, 1) := dk_4 (dk_at dksX3_parseRecord_4 19 rfl rfl)
theorem dX3_parseRecord_112 : decode cX3_parseRecord 112 = .ok (.goto 4, 3) := dk_167 0 4 (dk_at dksX3_parseRecord_4 20 rfl rfl)
theorem dX3_parseRecord_115 : decode cX3_parseRecord 115 = .ok (.iconst 0, 1) := dk_3 (dk_at dksX3_parseRecord_4 23 rfl rfl)
theorem dX3_parseRecord_116 : decode cX3_parseRecord 116 = .ok (.iconst 1, 1) := dk_4 (dk_at dksX3_parseRecord_5 0 rfl rfl)
theorem dX3_parseRecord_117 : decode cX3_parseRecord 117 = .ok (.invokevirtual 393, 3) := dk_182 1 137 (dk_at dksX3_parseRecord_5 1 rfl rfl)
theorem dX3_parseRecord_120 : decode cX3_parseRecord 120 = .ok (.aload_n 0, 1) := dk_42 (dk_at dksX3_parseRecord_5 4 rfl rfl)
theorem dX3_parseRecord_121 : decode cX3_parseRecord 121 = .ok (.invokevirtual 397, 3) := dk_182 1 141 (dk_at dksX3_parseRecord_5 5 rfl rfl)
theorem dX3_parseRecord_124 : decode cX3_parseRecord 124 = .ok (.return_, 1) := dk_177 (dk_at dksX3_parseRecord_5 8 rfl rfl)
abbrev cX3_isKey : ByteArray := prog_16_method_103_code
def yX3_isKey : MethodName := ⟨RX3, "isKey", "(Ljava/lang/String;)Z"⟩
def dkwX3_isKey_3 : List UInt8 := [3, 172]
abbrev dktX3_isKey_3 : List UInt8 := dkwX3_isKey_3 ++ []
def dkwX3_isKey_2 : List UInt8 := [20, 0, 153, 101, 65, 132, 4, 1, 167, 255, 226, 42, 180, 1, 113, 32, 148, 154, 0, 7, 4, 167, 0, 4]
abbrev dktX3_isKey_2 : List UInt8 := dkwX3_isKey_2 ++ dktX3_isKey_3
def dkwX3_isKey_1 : List UInt8 := [54, 4, 21, 4, 43, 182, 1, 85, 162, 0, 27, 20, 0, 132, 32, 105, 43, 21, 4, 182, 1, 90, 133, 97]
abbrev dktX3_isKey_1 : List UInt8 := dkwX3_isKey_1 ++ dktX3_isKey_2
def dkwX3_isKey_0 : List UInt8 := [42, 180, 1, 120, 5, 160, 0, 14, 42, 180, 1, 110, 43, 182, 1, 85, 159, 0, 5, 3, 172, 9, 65, 3]
abbrev dktX3_isKey_0 : List UInt8 := dkwX3_isKey_0 ++ dktX3_isKey_1
theorem dksX3_isKey_0 : cX3_isKey.data.toList.drop 0 = dktX3_isKey_0 := by decide +kernel
theorem dksX3_isKey_1 : cX3_isKey.data.toList.drop 24 = dktX3_isKey_1 := dk_seg dksX3_isKey_0 24 rfl rfl
theorem dksX3_isKey_2 : cX3_isKey.data.toList.drop 48 = dktX3_isKey_2 := dk_seg dksX3_isKey_1 24 rfl rfl
theorem dksX3_isKey_3 : cX3_isKey.data.toList.drop 72 = dktX3_isKey_3 := dk_seg dksX3_isKey_2 24 rfl rfl
theorem dX3_isKey_0 : decode cX3_isKey 0 = .ok (.aload_n 0, 1) := dk_42 (dk_at dksX3_isKey_0 0 rfl rfl)
theorem dX3_isKey_1 : decode cX3_isKey 1 = .ok (.getfield 376, 3) := dk_180 1 120 (dk_at dksX3_isKey_0 1 rfl rfl)
theorem dX3_isKey_4 : decode cX3_isKey 4 = .ok (.iconst 2, 1) := dk_5 (dk_at dksX3_isKey_0 4 rfl rfl)
theorem dX3_isKey_5 : decode cX3_isKey 5 = .ok (.if_icmp .ne 14, 3) := dk_160 0 14 (dk_at dksX3_isKey_0 5 rfl rfl)
theorem dX3_isKey_8 : decode cX3_isKey 8 = .ok (.aload_n 0, 1) := dk_42 (dk_at dksX3_isKey_0 8 rfl rfl)
theorem dX3_isKey_9 : decode cX3_isKey 9 = .ok (.getfield 366, 3) := dk_180 1 110 (dk_at dksX3_isKey_0 9 rfl rfl)
theorem dX3_isKey_12 : decode cX3_isKey 12 = .ok (.aload_n 1, 1) := dk_43 (dk_at dksX3_isKey_0 12 rfl rfl)
theorem dX3_isKey_13 : decode cX3_isKey 13 = .ok (.invokevirtual 341, 3) := dk_182 1 85 (dk_at dksX3_isKey_0 13 rfl rfl)
theorem dX3_isKey_16 : decode cX3_isKey 16 = .ok (.if_icmp .eq 5, 3) := dk_159 0 5 (dk_at dksX3_isKey_0 16 rfl rfl)
theorem dX3_isKey_19 : decode cX3_isKey 19 = .ok (.iconst 0, 1) := dk_3 (dk_at dksX3_isKey_0 19 rfl rfl)
theorem dX3_isKey_20 : decode cX3_isKey 20 = .ok (.ireturn, 1) := dk_172 (dk_at dksX3_isKey_0 20 rfl rfl)
theorem dX3_isKey_21 : decode cX3_isKey 21 = .ok (.lconst 0, 1) := dk_9 (dk_at dksX3_isKey_0 21 rfl rfl)
theorem dX3_isKey_22 : decode cX3_isKey 22 = .ok (.lstore_n 2, 1) := dk_65 (dk_at dksX3_isKey_0 22 rfl rfl)
theorem dX3_isKey_23 : decode cX3_isKey 23 = .ok (.iconst 0, 1) := dk_3 (dk_at dksX3_isKey_0 23 rfl rfl)
theorem dX3_isKey_24 : decode cX3_isKey 24 = .ok (.istore 4, 2) := dk_54 4 (dk_at dksX3_isKey_1 0 rfl rfl)
theorem dX3_isKey_26 : decode cX3_isKey 26 = .ok (.iload 4, 2) := dk_21 4 (dk_at dksX3_isKey_1 2 rfl rfl)
theorem dX3_isKey_28 : decode cX3_isKey 28 = .ok (.aload_n 1, 1) := dk_43 (dk_at dksX3_isKey_1 4 rfl rfl)
theorem dX3_isKey_29 : decode cX3_isKey 29 = .ok (.invokevirtual 341, 3) := dk_182 1 85 (dk_at dksX3_isKey_1 5 rfl rfl)
theorem dX3_isKey_32 : decode cX3_isKey 32 = .ok (.if_icmp .ge 27, 3) := dk_162 0 27 (dk_at dksX3_isKey_1 8 rfl rfl)
theorem dX3_isKey_35 : decode cX3_isKey 35 = .ok (.ldc2_w 132, 3) := dk_20 0 132 (dk_at dksX3_isKey_1 11 rfl rfl)
theorem dX3_isKey_38 : decode cX3_isKey 38 = .ok (.lload_n 2, 1) := dk_32 (dk_at dksX3_isKey_1 14 rfl rfl)
theorem dX3_isKey_39 : decode cX3_isKey 39 = .ok (.lmul, 1) := dk_105 (dk_at dksX3_isKey_1 15 rfl rfl)
theorem dX3_isKey_40 : decode cX3_isKey 40 = .ok (.aload_n 1, 1) := dk_43 (dk_at dksX3_isKey_1 16 rfl rfl)
theorem dX3_isKey_41 : decode cX3_isKey 41 = .ok (.iload 4, 2) := dk_21 4 (dk_at dksX3_isKey_1 17 rfl rfl)
theorem dX3_isKey_43 : decode cX3_isKey 43 = .ok (.invokevirtual 346, 3) := dk_182 1 90 (dk_at dksX3_isKey_1 19 rfl rfl)
theorem dX3_isKey_46 : decode cX3_isKey 46 = .ok (.i2l, 1) := dk_133 (dk_at dksX3_isKey_1 22 rfl rfl)
theorem dX3_isKey_47 : decode cX3_isKey 47 = .ok (.ladd, 1) := dk_97 (dk_at dksX3_isKey_1 23 rfl rfl)
theorem dX3_isKey_48 : decode cX3_isKey 48 = .ok (.ldc2_w 153, 3) := dk_20 0 153 (dk_at dksX3_isKey_2 0 rfl rfl)
theorem dX3_isKey_51 : decode cX3_isKey 51 = .ok (.lsub, 1) := dk_101 (dk_at dksX3_isKey_2 3 rfl rfl)
theorem dX3_isKey_52 : decode cX3_isKey 52 = .ok (.lstore_n 2, 1) := dk_65 (dk_at dksX3_isKey_2 4 rfl rfl)
theorem dX3_isKey_53 : decode cX3_isKey 53 = .ok (.iinc 4 1, 3) := dk_132 4 1 (dk_at dksX3_isKey_2 5 rfl rfl)
theorem dX3_isKey_56 : decode cX3_isKey 56 = .ok (.goto (-30), 3) := dk_167 255 226 (dk_at dksX3_isKey_2 8 rfl rfl)
theorem dX3_isKey_59 : decode cX3_isKey 59 = .ok (.aload_n 0, 1) := dk_42 (dk_at dksX3_isKey_2 11 rfl rfl)
theorem dX3_isKey_60 : decode cX3_isKey 60 = .ok (.getfield 369, 3) := dk_180 1 113 (dk_at dksX3_isKey_2 12 rfl rfl)
theorem dX3_isKey_63 : decode cX3_isKey 63 = .ok (.lload_n 2, 1) := dk_32 (dk_at dksX3_isKey_2 15 rfl rfl)
theorem dX3_isKey_64 : decode cX3_isKey 64 = .ok (.lcmp, 1) := dk_148 (dk_at dksX3_isKey_2 16 rfl rfl)
theorem dX3_isKey_65 : decode cX3_isKey 65 = .ok (.ifCond .ne 7, 3) := dk_154 0 7 (dk_at dksX3_isKey_2 17 rfl rfl)
theorem dX3_isKey_68 : decode cX3_isKey 68 = .ok (.iconst 1, 1) := dk_4 (dk_at dksX3_isKey_2 20 rfl rfl)
theorem dX3_isKey_69 : decode cX3_isKey 69 = .ok (.goto 4, 3) := dk_167 0 4 (dk_at dksX3_isKey_2 21 rfl rfl)
theorem dX3_isKey_72 : decode cX3_isKey 72 = .ok (.iconst 0, 1) := dk_3 (dk_at dksX3_isKey_3 0 rfl rfl)
theorem dX3_isKey_73 : decode cX3_isKey 73 = .ok (.ireturn, 1) := dk_172 (dk_at dksX3_isKey_3 1 rfl rfl)
abbrev cX3_parseEdition : ByteArray := prog_16_method_110_code
def yX3_parseEdition : MethodName := ⟨RX3, "parseEdition", "()V"⟩
def dkwX3_parseEdition_7 : List UInt8 := [159, 0, 11, 42, 180, 1, 120, 8, 160, 0, 7, 4, 167, 0, 4, 3, 54, 4, 167, 255, 140, 177]
abbrev dktX3_parseEdition_7 : List UInt8 := dkwX3_parseEdition_7 ++ []
def dkwX3_parseEdition_6 : List UInt8 := [180, 1, 113, 21, 5, 182, 0, 177, 42, 182, 1, 141, 42, 182, 1, 130, 153, 0, 23, 42, 180, 1, 120, 5]
abbrev dktX3_parseEdition_6 : List UInt8 := dkwX3_parseEdition_6 ++ dktX3_parseEdition_7
def dkwX3_parseEdition_5 : List UInt8 := [162, 0, 7, 4, 167, 0, 4, 3, 7, 182, 1, 137, 42, 182, 1, 130, 153, 0, 14, 42, 29, 42]
abbrev dktX3_parseEdition_5 : List UInt8 := dkwX3_parseEdition_5 ++ dktX3_parseEdition_6
def dkwX3_parseEdition_4 : List UInt8 := [180, 1, 120, 8, 160, 0, 7, 42, 182, 1, 141, 42, 182, 1, 151, 42, 42, 29, 182, 0, 119, 16, 120]
abbrev dktX3_parseEdition_4 : List UInt8 := dkwX3_parseEdition_4 ++ dktX3_parseEdition_5
def dkwX3_parseEdition_3 : List UInt8 := [180, 1, 120, 8, 159, 0, 11, 42, 29, 182, 0, 119, 154, 0, 7, 4, 167, 0, 4, 3, 54, 5, 42]
abbrev dktX3_parseEdition_3 : List UInt8 := dkwX3_parseEdition_3 ++ dktX3_parseEdition_4
def dkwX3_parseEdition_2 : List UInt8 := [27, 28, 182, 0, 174, 167, 0, 4, 3, 62, 42, 182, 1, 130, 54, 4, 21, 4, 153, 0, 117, 42]
abbrev dktX3_parseEdition_2 : List UInt8 := dkwX3_parseEdition_2 ++ dktX3_parseEdition_3
def dkwX3_parseEdition_1 : List UInt8 := [16, 8, 16, 60, 182, 1, 148, 60, 42, 4, 16, 40, 182, 1, 148, 61, 42, 182, 1, 130, 153, 0, 12, 42]
abbrev dktX3_parseEdition_1 : List UInt8 := dkwX3_parseEdition_1 ++ dktX3_parseEdition_2
def dkwX3_parseEdition_0 : List UInt8 := [42, 42, 182, 0, 107, 6, 162, 0, 7, 4, 167, 0, 4, 3, 7, 182, 1, 137, 42, 182, 1, 141, 42]
abbrev dktX3_parseEdition_0 : List UInt8 := dkwX3_parseEdition_0 ++ dktX3_parseEdition_1
theorem dksX3_parseEdition_0 : cX3_parseEdition.data.toList.drop 0 = dktX3_parseEdition_0 := by decide +kernel
theorem dksX3_parseEdition_1 : cX3_parseEdition.data.toList.drop 23 = dktX3_parseEdition_1 := dk_seg dksX3_parseEdition_0 23 rfl rfl
theorem dksX3_parseEdition_2 : cX3_parseEdition.data.toList.drop 47 = dktX3_parseEdition_2 := dk_seg dksX3_parseEdition_1 24 rfl rfl
theorem dksX3_parseEdition_3 : cX3_parseEdition.data.toList.drop 69 = dktX3_parseEdition_3 := dk_seg dksX3_parseEdition_2 22 rfl rfl
theorem dksX3_parseEdition_4 : cX3_parseEdition.data.toList.drop 92 = dktX3_parseEdition_4 := dk_seg dksX3_parseEdition_3 23 rfl rfl
theorem dksX3_parseEdition_5 : cX3_parseEdition.data.toList.drop 115 = dktX3_parseEdition_5 := dk_seg dksX3_parseEdition_4 23 rfl rfl
theorem dksX3_parseEdition_6 : cX3_parseEdition.data.toList.drop 137 = dktX3_parseEdition_6 := dk_seg dksX3_parseEdition_5 22 rfl rfl
theorem dksX3_parseEdition_7 : cX3_parseEdition.data.toList.drop 161 = dktX3_parseEdition_7 := dk_seg dksX3_parseEdition_6 24 rfl rfl
theorem dX3_parseEdition_0 : decode cX3_parseEdition 0 = .ok (.aload_n 0, 1) := dk_42 (dk_at dksX3_parseEdition_0 0 rfl rfl)
theorem dX3_parseEdition_1 : decode cX3_parseEdition 1 = .ok (.aload_n 0, 1) := dk_42 (dk_at dksX3_parseEdition_0 1 rfl rfl)
theorem dX3_parseEdition_2 : decode cX3_parseEdition 2 = .ok (.invokevirtual 107, 3) := dk_182 0 107 (dk_at dksX3_parseEdition_0 2 rfl rfl)
theorem dX3_parseEdition_5 : decode cX3_parseEdition 5 = .ok (.iconst 3, 1) := dk_6 (dk_at dksX3_parseEdition_0 5 rfl rfl)
theorem dX3_parseEdition_6 : decode cX3_parseEdition 6 = .ok (.if_icmp .ge 7, 3) := dk_162 0 7 (dk_at dksX3_parseEdition_0 6 rfl rfl)
theorem dX3_parseEdition_9 : decode cX3_parseEdition 9 = .ok (.iconst 1, 1) := dk_4 (dk_at dksX3_parseEdition_0 9 rfl rfl)
theorem dX3_parseEdition_10 : decode cX3_parseEdition 10 = .ok (.goto 4, 3) := dk_167 0 4 (dk_at dksX3_parseEdition_0 10 rfl rfl)
theorem dX3_parseEdition_13 : decode cX3_parseEdition 13 = .ok (.iconst 0, 1) := dk_3 (dk_at dksX3_parseEdition_0 13 rfl rfl)
theorem dX3_parseEdition_14 : decode cX3_parseEdition 14 = .ok (.iconst 4, 1) := dk_7 (dk_at dksX3_parseEdition_0 14 rfl rfl)
theorem dX3_parseEdition_15 : decode cX3_parseEdition 15 = .ok (.invokevirtual 393, 3) := dk_182 1 137 (dk_at dksX3_parseEdition_0 15 rfl rfl)
theorem dX3_parseEdition_18 : decode cX3_parseEdition 18 = .ok (.aload_n 0, 1) := dk_42 (dk_at dksX3_parseEdition_0 18 rfl rfl)
theorem dX3_parseEdition_19 : decode cX3_parseEdition 19 = .ok (.invokevirtual 397, 3) := dk_182 1 141 (dk_at dksX3_parseEdition_0 19 rfl rfl)
theorem dX3_parseEdition_22 : decode cX3_parseEdition 22 = .ok (.aload_n 0, 1) := dk_42 (dk_at dksX3_parseEdition_0 22 rfl rfl)
theorem dX3_parseEdition_23 : decode cX3_parseEdition 23 = .ok (.bipush 8, 2) := dk_16 8 (dk_at dksX3_parseEdition_1 0 rfl rfl)
theorem dX3_parseEdition_25 : decode cX3_parseEdition 25 = .ok (.bipush 60, 2) := dk_16 60 (dk_at dksX3_parseEdition_1 2 rfl rfl)
theorem dX3_parseEdition_27 : decode cX3_parseEdition 27 = .ok (.invokevirtual 404, 3) := dk_182 1 148 (dk_at dksX3_parseEdition_1 4 rfl rfl)
theorem dX3_parseEdition_30 : decode cX3_parseEdition 30 = .ok (.istore_n 1, 1) := dk_60 (dk_at dksX3_parseEdition_1 7 rfl rfl)
theorem dX3_parseEdition_31 : decode cX3_parseEdition 31 = .ok (.aload_n 0, 1) := dk_42 (dk_at dksX3_parseEdition_1 8 rfl rfl)
theorem dX3_parseEdition_32 : decode cX3_parseEdition 32 = .ok (.iconst 1, 1) := dk_4 (dk_at dksX3_parseEdition_1 9 rfl rfl)
theorem dX3_parseEdition_33 : decode cX3_parseEdition 33 = .ok (.bipush 40, 2) := dk_16 40 (dk_at dksX3_parseEdition_1 10 rfl rfl)
theorem dX3_parseEdition_35 : decode cX3_parseEdition 35 = .ok (.invokevirtual 404, 3) := dk_182 1 148 (dk_at dksX3_parseEdition_1 12 rfl rfl)
theorem dX3_parseEdition_38 : decode cX3_parseEdition 38 = .ok (.istore_n 2, 1) := dk_61 (dk_at dksX3_parseEdition_1 15 rfl rfl)
theorem dX3_parseEdition_39 : decode cX3_parseEdition 39 = .ok (.aload_n 0, 1) := dk_42 (dk_at dksX3_parseEdition_1 16 rfl rfl)
theorem dX3_parseEdition_40 : decode cX3_parseEdition 40 = .ok (.invokevirtual 386, 3) := dk_182 1 130 (dk_at dksX3_parseEdition_1 17 rfl rfl)
theorem dX3_parseEdition_43 : decode cX3_parseEdition 43 = .ok (.ifCond .eq 12, 3) := dk_153 0 12 (dk_at dksX3_parseEdition_1 20 rfl rfl)
theorem dX3_parseEdition_46 : decode cX3_parseEdition 46 = .ok (.aload_n 0, 1) := dk_42 (dk_at dksX3_parseEdition_1 23 rfl rfl)
theorem dX3_parseEdition_47 : decode cX3_parseEdition 47 = .ok (.iload_n 1, 1) := dk_27 (dk_at dksX3_parseEdition_2 0 rfl rfl)
theorem dX3_parseEdition_48 : decode cX3_parseEdition 48 = .ok (.iload_n 2, 1) := dk_28 (dk_at dksX3_parseEdition_2 1 rfl rfl)
theorem dX3_parseEdition_49 : decode cX3_parseEdition 49 = .ok (.invokevirtual 174, 3) := dk_182 0 174 (dk_at dksX3_parseEdition_2 2 rfl rfl)
theorem dX3_parseEdition_52 : decode cX3_parseEdition 52 = .ok (.goto 4, 3) := dk_167 0 4 (dk_at dksX3_parseEdition_2 5 rfl rfl)
theorem dX3_parseEdition_55 : decode cX3_parseEdition 55 = .ok (.iconst 0, 1) := dk_3 (dk_at dksX3_parseEdition_2 8 rfl rfl)
theorem dX3_parseEdition_56 : decode cX3_parseEdition 56 = .ok (.istore_n 3, 1) := dk_62 (dk_at dksX3_parseEdition_2 9 rfl rfl)
theorem dX3_parseEdition_57 : decode cX3_parseEdition 57 = .ok (.aload_n 0, 1) := dk_42 (dk_at dksX3_parseEdition_2 10 rfl rfl)
theorem dX3_parseEdition_58 : decode cX3_parseEdition 58 = .ok (.invokevirtual 386, 3) := dk_182 1 130 (dk_at dksX3_parseEdition_2 11 rfl rfl)
theorem dX3_parseEdition_61 : decode cX3_parseEdition 61 = .ok (.istore 4, 2) := dk_54 4 (dk_at dksX3_parseEdition_2 14 rfl rfl)
theorem dX3_parseEdition_63 : decode cX3_parseEdition 63 = .ok (.iload 4, 2) := dk_21 4 (dk_at dksX3_parseEdition_2 16 rfl rfl)
theorem dX3_parseEdition_65 : decode cX3_parseEdition 65 = .ok (.ifCond .eq 117, 3) := dk_153 0 117 (dk_at dksX3_parseEdition_2 18 rfl rfl)
theorem dX3_parseEdition_68 : decode cX3_parseEdition 68 = .ok (.aload_n 0, 1) := dk_42 (dk_at dksX3_parseEdition_2 21 rfl rfl)
theorem dX3_parseEdition_69 : decode cX3_parseEdition 69 = .ok (.getfield 376, 3) := dk_180 1 120 (dk_at dksX3_parseEdition_3 0 rfl rfl)
theorem dX3_parseEdition_72 : decode cX3_parseEdition 72 = .ok (.iconst 5, 1) := dk_8 (dk_at dksX3_parseEdition_3 3 rfl rfl)
theorem dX3_parseEdition_73 : decode cX3_parseEdition 73 = .ok (.if_icmp .eq 11, 3) := dk_159 0 11 (dk_at dksX3_parseEdition_3 4 rfl rfl)
theorem dX3_parseEdition_76 : decode cX3_parseEdition 76 = .ok (.aload_n 0, 1) := dk_42 (dk_at dksX3_parseEdition_3 7 rfl rfl)
theorem dX3_parseEdition_77 : decode cX3_parseEdition 77 = .ok (.iload_n 3, 1) := dk_29 (dk_at dksX3_parseEdition_3 8 rfl rfl)
theorem dX3_parseEdition_78 : decode cX3_parseEdition 78 = .ok (.invokevirtual 119, 3) := dk_182 0 119 (dk_at dksX3_parseEdition_3 9 rfl rfl)
theorem dX3_parseEdition_81 : decode cX3_parseEdition 81 = .ok (.ifCond .ne 7, 3) := dk_154 0 7 (dk_at dksX3_parseEdition_3 12 rfl rfl)
theorem dX3_parseEdition_84 : decode cX3_parseEdition 84 = .ok (.iconst 1, 1) := dk_4 (dk_at dksX3_parseEdition_3 15 rfl rfl)
theorem dX3_parseEdition_85 : decode cX3_parseEdition 85 = .ok (.goto 4, 3) := dk_167 0 4 (dk_at dksX3_parseEdition_3 16 rfl rfl)
theorem dX3_parseEdition_88 : decode cX3_parseEdition 88 = .ok (.iconst 0, 1) := dk_3 (dk_at dksX3_parseEdition_3 19 rfl rfl)
theorem dX3_parseEdition_89 : decode cX3_parseEdition 89 = .ok (.istore 5, 2) := dk_54 5 (dk_at dksX3_parseEdition_3 20 rfl rfl)
theorem dX3_parseEdition_91 : decode cX3_parseEdition 91 = .ok (.aload_n 0, 1) := dk_42 (dk_at dksX3_parseEdition_3 22 rfl rfl)
theorem dX3_parseEdition_92 : decode cX3_parseEdition 92 = .ok (.getfield 376, 3) := dk_180 1 120 (dk_at dksX3_parseEdition_4 0 rfl rfl)
theorem dX3_parseEdition_95 : decode cX3_parseEdition 95 = .ok (.iconst 5, 1) := dk_8 (dk_at dksX3_parseEdition_4 3 rfl rfl)
theorem dX3_parseEdition_96 : decode cX3_parseEdition 96 = .ok (.if_icmp .ne 7, 3) := dk_160 0 7 (dk_at dksX3_parseEdition_4 4 rfl rfl)
theorem dX3_parseEdition_99 : decode cX3_parseEdition 99 = .ok (.aload_n 0, 1) := dk_42 (dk_at dksX3_parseEdition_4 7 rfl rfl)
theorem dX3_parseEdition_100 : decode cX3_parseEdition 100 = .ok (.invokevirtual 397, 3) := dk_182 1 141 (dk_at dksX3_parseEdition_4 8 rfl rfl)
theorem dX3_parseEdition_103 : decode cX3_parseEdition 103 = .ok (.aload_n 0, 1) := dk_42 (dk_at dksX3_parseEdition_4 11 rfl rfl)
theorem dX3_parseEdition_104 : decode cX3_parseEdition 104 = .ok (.invokevirtual 407, 3) := dk_182 1 151 (dk_at dksX3_parseEdition_4 12 rfl rfl)
theorem dX3_parseEdition_107 : decode cX3_parseEdition 107 = .ok (.aload_n 0, 1) := dk_42 (dk_at dksX3_parseEdition_4 15 rfl rfl)
theorem dX3_parseEdition_108 : decode cX3_parseEdition 108 = .ok (.aload_n 0, 1) := dk_42 (dk_at dksX3_parseEdition_4 16 rfl rfl)
theorem dX3_parseEdition_109 : decode cX3_parseEdition 109 = .ok (.iload_n 3, 1) := dk_29 (dk_at dksX3_parseEdition_4 17 rfl rfl)
theorem dX3_parseEdition_110 : decode cX3_parseEdition 110 = .ok (.invokevirtual 119, 3) := dk_182 0 119 (dk_at dksX3_parseEdition_4 18 rfl rfl)
theorem dX3_parseEdition_113 : decode cX3_parseEdition 113 = .ok (.bipush 120, 2) := dk_16 120 (dk_at dksX3_parseEdition_4 21 rfl rfl)
theorem dX3_parseEdition_115 : decode cX3_parseEdition 115 = .ok (.if_icmp .ge 7, 3) := dk_162 0 7 (dk_at dksX3_parseEdition_5 0 rfl rfl)
theorem dX3_parseEdition_118 : decode cX3_parseEdition 118 = .ok (.iconst 1, 1) := dk_4 (dk_at dksX3_parseEdition_5 3 rfl rfl)
theorem dX3_parseEdition_119 : decode cX3_parseEdition 119 = .ok (.goto 4, 3) := dk_167 0 4 (dk_at dksX3_parseEdition_5 4 rfl rfl)
theorem dX3_parseEdition_122 : decode cX3_parseEdition 122 = .ok (.iconst 0, 1) := dk_3 (dk_at dksX3_parseEdition_5 7 rfl rfl)
theorem dX3_parseEdition_123 : decode cX3_parseEdition 123 = .ok (.iconst 4, 1) := dk_7 (dk_at dksX3_parseEdition_5 8 rfl rfl)
theorem dX3_parseEdition_124 : decode cX3_parseEdition 124 = .ok (.invokevirtual 393, 3) := dk_182 1 137 (dk_at dksX3_parseEdition_5 9 rfl rfl)
theorem dX3_parseEdition_127 : decode cX3_parseEdition 127 = .ok (.aload_n 0, 1) := dk_42 (dk_at dksX3_parseEdition_5 12 rfl rfl)
theorem dX3_parseEdition_128 : decode cX3_parseEdition 128 = .ok (.invokevirtual 386, 3) := dk_182 1 130 (dk_at dksX3_parseEdition_5 13 rfl rfl)
theorem dX3_parseEdition_131 : decode cX3_parseEdition 131 = .ok (.ifCond .eq 14, 3) := dk_153 0 14 (dk_at dksX3_parseEdition_5 16 rfl rfl)
theorem dX3_parseEdition_134 : decode cX3_parseEdition 134 = .ok (.aload_n 0, 1) := dk_42 (dk_at dksX3_parseEdition_5 19 rfl rfl)
theorem dX3_parseEdition_135 : decode cX3_parseEdition 135 = .ok (.iload_n 3, 1) := dk_29 (dk_at dksX3_parseEdition_5 20 rfl rfl)
theorem dX3_parseEdition_136 : decode cX3_parseEdition 136 = .ok (.aload_n 0, 1) := dk_42 (dk_at dksX3_parseEdition_5 21 rfl rfl)
theorem dX3_parseEdition_137 : decode cX3_parseEdition 137 = .ok (.getfield 369, 3) := dk_180 1 113 (dk_at dksX3_parseEdition_6 0 rfl rfl)
theorem dX3_parseEdition_140 : decode cX3_parseEdition 140 = .ok (.iload 5, 2) := dk_21 5 (dk_at dksX3_parseEdition_6 3 rfl rfl)
theorem dX3_parseEdition_142 : decode cX3_parseEdition 142 = .ok (.invokevirtual 177, 3) := dk_182 0 177 (dk_at dksX3_parseEdition_6 5 rfl rfl)
theorem dX3_parseEdition_145 : decode cX3_parseEdition 145 = .ok (.aload_n 0, 1) := dk_42 (dk_at dksX3_parseEdition_6 8 rfl rfl)
theorem dX3_parseEdition_146 : decode cX3_parseEdition 146 = .ok (.invokevirtual 397, 3) := dk_182 1 141 (dk_at dksX3_parseEdition_6 9 rfl rfl)
theorem dX3_parseEdition_149 : decode cX3_parseEdition 149 = .ok (.aload_n 0, 1) := dk_42 (dk_at dksX3_parseEdition_6 12 rfl rfl)
theorem dX3_parseEdition_150 : decode cX3_parseEdition 150 = .ok (.invokevirtual 386, 3) := dk_182 1 130 (dk_at dksX3_parseEdition_6 13 rfl rfl)
theorem dX3_parseEdition_153 : decode cX3_parseEdition 153 = .ok (.ifCond .eq 23, 3) := dk_153 0 23 (dk_at dksX3_parseEdition_6 16 rfl rfl)
theorem dX3_parseEdition_156 : decode cX3_parseEdition 156 = .ok (.aload_n 0, 1) := dk_42 (dk_at dksX3_parseEdition_6 19 rfl rfl)
theorem dX3_parseEdition_157 : decode cX3_parseEdition 157 = .ok (.getfield 376, 3) := dk_180 1 120 (dk_at dksX3_parseEdition_6 20 rfl rfl)
theorem dX3_parseEdition_160 : decode cX3_parseEdition 160 = .ok (.iconst 2, 1) := dk_5 (dk_at dksX3_parseEdition_6 23 rfl rfl)
theorem dX3_parseEdition_161 : decode cX3_parseEdition 161 = .ok (.if_icmp .eq 11, 3) := dk_159 0 11 (dk_at dksX3_parseEdition_7 0 rfl rfl)
theorem dX3_parseEdition_164 : decode cX3_parseEdition 164 = .ok (.aload_n 0, 1) := dk_42 (dk_at dksX3_parseEdition_7 3 rfl rfl)
theorem dX3_parseEdition_165 : decode cX3_parseEdition 165 = .ok (.getfield 376, 3) := dk_180 1 120 (dk_at dksX3_parseEdition_7 4 rfl rfl)
theorem dX3_parseEdition_168 : decode cX3_parseEdition 168 = .ok (.iconst 5, 1) := dk_8 (dk_at dksX3_parseEdition_7 7 rfl rfl)
theorem dX3_parseEdition_169 : decode cX3_parseEdition 169 = .ok (.if_icmp .ne 7, 3) := dk_160 0 7 (dk_at dksX3_parseEdition_7 8 rfl rfl)
theorem dX3_parseEdition_172 : decode cX3_parseEdition 172 = .ok (.iconst 1, 1) := dk_4 (dk_at dksX3_parseEdition_7 11 rfl rfl)
theorem dX3_parseEdition_173 : decode cX3_parseEdition 173 = .ok (.goto 4, 3) := dk_167 0 4 (dk_at dksX3_parseEdition_7 12 rfl rfl)
theorem dX3_parseEdition_176 : decode cX3_parseEdition 176 = .ok (.iconst 0, 1) := dk_3 (dk_at dksX3_parseEdition_7 15 rfl rfl)
theorem dX3_parseEdition_177 : decode cX3_parseEdition 177 = .ok (.istore 4, 2) := dk_54 4 (dk_at dksX3_parseEdition_7 16 rfl rfl)
theorem dX3_parseEdition_179 : decode cX3_parseEdition 179 = .ok (.goto (-116), 3) := dk_167 255 140 (dk_at dksX3_parseEdition_7 18 rfl rfl)
theorem dX3_parseEdition_182 : decode cX3_parseEdition 182 = .ok (.return_, 1) := dk_177 (dk_at dksX3_parseEdition_7 21 rfl rfl)
abbrev cX3_require : ByteArray := prog_16_method_104_code
def yX3_require : MethodName := ⟨RX3, "require", "(ZI)V"⟩
def dkwX3_require_1 : List UInt8 := [177]
abbrev dktX3_require_1 : List UInt8 := dkwX3_require_1 ++ []
def dkwX3_require_0 : List UInt8 := [27, 154, 0, 23, 42, 180, 1, 127, 154, 0, 16, 42, 28, 181, 1, 127, 42, 42, 180, 1, 107, 181, 0, 96]
abbrev dktX3_require_0 : List UInt8 := dkwX3_require_0 ++ dktX3_require_1
theorem dksX3_require_0 : cX3_require.data.toList.drop 0 = dktX3_require_0 := by decide +kernel
theorem dksX3_require_1 : cX3_require.data.toList.drop 24 = dktX3_require_1 := dk_seg dksX3_require_0 24 rfl rfl
theorem dX3_require_0 : decode cX3_require 0 = .ok (.iload_n 1, 1) := dk_27 (dk_at dksX3_require_0 0 rfl rfl)
theorem dX3_require_1 : decode cX3_require 1 = .ok (.ifCond .ne 23, 3) := dk_154 0 23 (dk_at dksX3_require_0 1 rfl rfl)
theorem dX3_require_4 : decode cX3_require 4 = .ok (.aload_n 0, 1) := dk_42 (dk_at dksX3_require_0 4 rfl rfl)
theorem dX3_require_5 : decode cX3_require 5 = .ok (.getfield 383, 3) := dk_180 1 127 (dk_at dksX3_require_0 5 rfl rfl)
theorem dX3_require_8 : decode cX3_require 8 = .ok (.ifCond .ne 16, 3) := dk_154 0 16 (dk_at dksX3_require_0 8 rfl rfl)
theorem dX3_require_11 : decode cX3_require 11 = .ok (.aload_n 0, 1) := dk_42 (dk_at dksX3_require_0 11 rfl rfl)
theorem dX3_require_12 : decode cX3_require 12 = .ok (.iload_n 2, 1) := dk_28 (dk_at dksX3_require_0 12 rfl rfl)
theorem dX3_require_13 : decode cX3_require 13 = .ok (.putfield 383, 3) := dk_181 1 127 (dk_at dksX3_require_0 13 rfl rfl)
theorem dX3_require_16 : decode cX3_require 16 = .ok (.aload_n 0, 1) := dk_42 (dk_at dksX3_require_0 16 rfl rfl)
theorem dX3_require_17 : decode cX3_require 17 = .ok (.aload_n 0, 1) := dk_42 (dk_at dksX3_require_0 17 rfl rfl)
theorem dX3_require_18 : decode cX3_require 18 = .ok (.getfield 363, 3) := dk_180 1 107 (dk_at dksX3_require_0 18 rfl rfl)
theorem dX3_require_21 : decode cX3_require 21 = .ok (.putfield 96, 3) := dk_181 0 96 (dk_at dksX3_require_0 21 rfl rfl)
theorem dX3_require_24 : decode cX3_require 24 = .ok (.return_, 1) := dk_177 (dk_at dksX3_require_1 0 rfl rfl)
abbrev cX3_advance : ByteArray := prog_16_method_106_code
def yX3_advance : MethodName := ⟨RX3, "advance", "()V"⟩
def dkwX3_advance_0 : List UInt8 := [42, 182, 1, 130, 153, 0, 7, 42, 182, 1, 134, 177]
abbrev dktX3_advance_0 : List UInt8 := dkwX3_advance_0 ++ []
theorem dksX3_advance_0 : cX3_advance.data.toList.drop 0 = dktX3_advance_0 := by decide +kernel
theorem dX3_advance_0 : decode cX3_advance 0 = .ok (.aload_n 0, 1) := dk_42 (dk_at dksX3_advance_0 0 rfl rfl)
theorem dX3_advance_1 : decode cX3_advance 1 = .ok (.invokevirtual 386, 3) := dk_182 1 130 (dk_at dksX3_advance_0 1 rfl rfl)
theorem dX3_advance_4 : decode cX3_advance 4 = .ok (.ifCond .eq 7, 3) := dk_153 0 7 (dk_at dksX3_advance_0 4 rfl rfl)
theorem dX3_advance_7 : decode cX3_advance 7 = .ok (.aload_n 0, 1) := dk_42 (dk_at dksX3_advance_0 7 rfl rfl)
theorem dX3_advance_8 : decode cX3_advance 8 = .ok (.invokevirtual 390, 3) := dk_182 1 134 (dk_at dksX3_advance_0 8 rfl rfl)
theorem dX3_advance_11 : decode cX3_advance 11 = .ok (.return_, 1) := dk_177 (dk_at dksX3_advance_0 11 rfl rfl)
abbrev cX3_parseNumber : ByteArray := prog_16_method_107_code
def yX3_parseNumber : MethodName := ⟨RX3, "parseNumber", "(II)I"⟩
def dkwX3_parseNumber_1 : List UInt8 := [28, 184, 0, 111, 5, 182, 1, 137, 42, 180, 1, 117, 62, 42, 182, 1, 141, 29, 172]
abbrev dktX3_parseNumber_1 : List UInt8 := dkwX3_parseNumber_1 ++ []
def dkwX3_parseNumber_0 : List UInt8 := [42, 42, 180, 1, 120, 6, 160, 0, 7, 4, 167, 0, 4, 3, 4, 182, 1, 137, 42, 42, 180, 1, 117, 27]
abbrev dktX3_parseNumber_0 : List UInt8 := dkwX3_parseNumber_0 ++ dktX3_parseNumber_1
theorem dksX3_parseNumber_0 : cX3_parseNumber.data.toList.drop 0 = dktX3_parseNumber_0 := by decide +kernel
theorem dksX3_parseNumber_1 : cX3_parseNumber.data.toList.drop 24 = dktX3_parseNumber_1 := dk_seg dksX3_parseNumber_0 24 rfl rfl
theorem dX3_parseNumber_0 : decode cX3_parseNumber 0 = .ok (.aload_n 0, 1) := dk_42 (dk_at dksX3_parseNumber_0 0 rfl rfl)
theorem dX3_parseNumber_1 : decode cX3_parseNumber 1 = .ok (.aload_n 0, 1) := dk_42 (dk_at dksX3_parseNumber_0 1 rfl rfl)
theorem dX3_parseNumber_2 : decode cX3_parseNumber 2 = .ok (.getfield 376, 3) := dk_180 1 120 (dk_at dksX3_parseNumber_0 2 rfl rfl)
theorem dX3_parseNumber_5 : decode cX3_parseNumber 5 = .ok (.iconst 3, 1) := dk_6 (dk_at dksX3_parseNumber_0 5 rfl rfl)
theorem dX3_parseNumber_6 : decode cX3_parseNumber 6 = .ok (.if_icmp .ne 7, 3) := dk_160 0 7 (dk_at dksX3_parseNumber_0 6 rfl rfl)
theorem dX3_parseNumber_9 : decode cX3_parseNumber 9 = .ok (.iconst 1, 1) := dk_4 (dk_at dksX3_parseNumber_0 9 rfl rfl)
theorem dX3_parseNumber_10 : decode cX3_parseNumber 10 = .ok (.goto 4, 3) := dk_167 0 4 (dk_at dksX3_parseNumber_0 10 rfl rfl)
theorem dX3_parseNumber_13 : decode cX3_parseNumber 13 = .ok (.iconst 0, 1) := dk_3 (dk_at dksX3_parseNumber_0 13 rfl rfl)
theorem dX3_parseNumber_14 : decode cX3_parseNumber 14 = .ok (.iconst 1, 1) := dk_4 (dk_at dksX3_parseNumber_0 14 rfl rfl)
theorem dX3_parseNumber_15 : decode cX3_parseNumber 15 = .ok (.invokevirtual 393, 3) := dk_182 1 137 (dk_at dksX3_parseNumber_0 15 rfl rfl)
theorem dX3_parseNumber_18 : decode cX3_parseNumber 18 = .ok (.aload_n 0, 1) := dk_42 (dk_at dksX3_parseNumber_0 18 rfl rfl)
theorem dX3_parseNumber_19 : decode cX3_parseNumber 19 = .ok (.aload_n 0, 1) := dk_42 (dk_at dksX3_parseNumber_0 19 rfl rfl)
theorem dX3_parseNumber_20 : decode cX3_parseNumber 20 = .ok (.getfield 373, 3) := dk_180 1 117 (dk_at dksX3_parseNumber_0 20 rfl rfl)
theorem dX3_parseNumber_23 : decode cX3_parseNumber 23 = .ok (.iload_n 1, 1) := dk_27 (dk_at dksX3_parseNumber_0 23 rfl rfl)
theorem dX3_parseNumber_24 : decode cX3_parseNumber 24 = .ok (.iload_n 2, 1) := dk_28 (dk_at dksX3_parseNumber_1 0 rfl rfl)
theorem dX3_parseNumber_25 : decode cX3_parseNumber 25 = .ok (.invokestatic 111, 3) := dk_184 0 111 (dk_at dksX3_parseNumber_1 1 rfl rfl)
theorem dX3_parseNumber_28 : decode cX3_parseNumber 28 = .ok (.iconst 2, 1) := dk_5 (dk_at dksX3_parseNumber_1 4 rfl rfl)
theorem dX3_parseNumber_29 : decode cX3_parseNumber 29 = .ok (.invokevirtual 393, 3) := dk_182 1 137 (dk_at dksX3_parseNumber_1 5 rfl rfl)
theorem dX3_parseNumber_32 : decode cX3_parseNumber 32 = .ok (.aload_n 0, 1) := dk_42 (dk_at dksX3_parseNumber_1 8 rfl rfl)
theorem dX3_parseNumber_33 : decode cX3_parseNumber 33 = .ok (.getfield 373, 3) := dk_180 1 117 (dk_at dksX3_parseNumber_1 9 rfl rfl)
theorem dX3_parseNumber_36 : decode cX3_parseNumber 36 = .ok (.istore_n 3, 1) := dk_62 (dk_at dksX3_parseNumber_1 12 rfl rfl)
theorem dX3_parseNumber_37 : decode cX3_parseNumber 37 = .ok (.aload_n 0, 1) := dk_42 (dk_at dksX3_parseNumber_1 13 rfl rfl)
theorem dX3_parseNumber_38 : decode cX3_parseNumber 38 = .ok (.invokevirtual 397, 3) := dk_182 1 141 (dk_at dksX3_parseNumber_1 14 rfl rfl)
theorem dX3_parseNumber_41 : decode cX3_parseNumber 41 = .ok (.iload_n 3, 1) := dk_29 (dk_at dksX3_parseNumber_1 17 rfl rfl)
theorem dX3_parseNumber_42 : decode cX3_parseNumber 42 = .ok (.ireturn, 1) := dk_172 (dk_at dksX3_parseNumber_1 18 rfl rfl)
abbrev cX3_requireWord : ByteArray := prog_16_method_109_code
def yX3_requireWord : MethodName := ⟨RX3, "requireWord", "()V"⟩
def dkwX3_requireWord_1 : List UInt8 := [16, 8, 163, 0, 7, 4, 167, 0, 4, 3, 5, 182, 1, 137, 177]
abbrev dktX3_requireWord_1 : List UInt8 := dkwX3_requireWord_1 ++ []
def dkwX3_requireWord_0 : List UInt8 := [42, 42, 180, 1, 120, 5, 160, 0, 7, 4, 167, 0, 4, 3, 4, 182, 1, 137, 42, 42, 180, 1, 110]
abbrev dktX3_requireWord_0 : List UInt8 := dkwX3_requireWord_0 ++ dktX3_requireWord_1
theorem dksX3_requireWord_0 : cX3_requireWord.data.toList.drop 0 = dktX3_requireWord_0 := by decide +kernel
theorem dksX3_requireWord_1 : cX3_requireWord.data.toList.drop 23 = dktX3_requireWord_1 := dk_seg dksX3_requireWord_0 23 rfl rfl
theorem dX3_requireWord_0 : decode cX3_requireWord 0 = .ok (.aload_n 0, 1) := dk_42 (dk_at dksX3_requireWord_0 0 rfl rfl)
theorem dX3_requireWord_1 : decode cX3_requireWord 1 = .ok (.aload_n 0, 1) := dk_42 (dk_at dksX3_requireWord_0 1 rfl rfl)
theorem dX3_requireWord_2 : decode cX3_requireWord 2 = .ok (.getfield 376, 3) := dk_180 1 120 (dk_at dksX3_requireWord_0 2 rfl rfl)
theorem dX3_requireWord_5 : decode cX3_requireWord 5 = .ok (.iconst 2, 1) := dk_5 (dk_at dksX3_requireWord_0 5 rfl rfl)
theorem dX3_requireWord_6 : decode cX3_requireWord 6 = .ok (.if_icmp .ne 7, 3) := dk_160 0 7 (dk_at dksX3_requireWord_0 6 rfl rfl)
theorem dX3_requireWord_9 : decode cX3_requireWord 9 = .ok (.iconst 1, 1) := dk_4 (dk_at dksX3_requireWord_0 9 rfl rfl)
theorem dX3_requireWord_10 : decode cX3_requireWord 10 = .ok (.goto 4, 3) := dk_167 0 4 (dk_at dksX3_requireWord_0 10 rfl rfl)
theorem dX3_requireWord_13 : decode cX3_requireWord 13 = .ok (.iconst 0, 1) := dk_3 (dk_at dksX3_requireWord_0 13 rfl rfl)
theorem dX3_requireWord_14 : decode cX3_requireWord 14 = .ok (.iconst 1, 1) := dk_4 (dk_at dksX3_requireWord_0 14 rfl rfl)
theorem dX3_requireWord_15 : decode cX3_requireWord 15 = .ok (.invokevirtual 393, 3) := dk_182 1 137 (dk_at dksX3_requireWord_0 15 rfl rfl)
theorem dX3_requireWord_18 : decode cX3_requireWord 18 = .ok (.aload_n 0, 1) := dk_42 (dk_at dksX3_requireWord_0 18 rfl rfl)
theorem dX3_requireWord_19 : decode cX3_requireWord 19 = .ok (.aload_n 0, 1) := dk_42 (dk_at dksX3_requireWord_0 19 rfl rfl)
theorem dX3_requireWord_20 : decode cX3_requireWord 20 = .ok (.getfield 366, 3) := dk_180 1 110 (dk_at dksX3_requireWord_0 20 rfl rfl)
theorem dX3_requireWord_23 : decode cX3_requireWord 23 = .ok (.bipush 8, 2) := dk_16 8 (dk_at dksX3_requireWord_1 0 rfl rfl)
theorem dX3_requireWord_25 : decode cX3_requireWord 25 = .ok (.if_icmp .gt 7, 3) := dk_163 0 7 (dk_at dksX3_requireWord_1 2 rfl rfl)
theorem dX3_requireWord_28 : decode cX3_requireWord 28 = .ok (.iconst 1, 1) := dk_4 (dk_at dksX3_requireWord_1 5 rfl rfl)
theorem dX3_requireWord_29 : decode cX3_requireWord 29 = .ok (.goto 4, 3) := dk_167 0 4 (dk_at dksX3_requireWord_1 6 rfl rfl)
theorem dX3_requireWord_32 : decode cX3_requireWord 32 = .ok (.iconst 0, 1) := dk_3 (dk_at dksX3_requireWord_1 9 rfl rfl)
theorem dX3_requireWord_33 : decode cX3_requireWord 33 = .ok (.iconst 2, 1) := dk_5 (dk_at dksX3_requireWord_1 10 rfl rfl)
theorem dX3_requireWord_34 : decode cX3_requireWord 34 = .ok (.invokevirtual 393, 3) := dk_182 1 137 (dk_at dksX3_requireWord_1 11 rfl rfl)
theorem dX3_requireWord_37 : decode cX3_requireWord 37 = .ok (.return_, 1) := dk_177 (dk_at dksX3_requireWord_1 14 rfl rfl)
abbrev cX3_parseReader : ByteArray := prog_16_method_111_code
def yX3_parseReader : MethodName := ⟨RX3, "parseReader", "()V"⟩
def dkwX3_parseReader_3 : List UInt8 := [42, 182, 1, 141, 177]
abbrev dktX3_parseReader_3 : List UInt8 := dkwX3_parseReader_3 ++ []
def dkwX3_parseReader_2 : List UInt8 := [167, 0, 4, 3, 6, 182, 1, 137, 42, 182, 1, 130, 153, 0, 12, 42, 42, 180, 1, 113, 182, 0, 226, 60]
abbrev dktX3_parseReader_2 : List UInt8 := dkwX3_parseReader_2 ++ dktX3_parseReader_3
def dkwX3_parseReader_1 : List UInt8 := [182, 1, 151, 42, 42, 182, 1, 130, 153, 0, 15, 42, 42, 180, 1, 113, 182, 0, 223, 2, 160, 0, 7, 4]
abbrev dktX3_parseReader_1 : List UInt8 := dkwX3_parseReader_1 ++ dktX3_parseReader_2
def dkwX3_parseReader_0 : List UInt8 := [42, 42, 182, 0, 123, 16, 6, 162, 0, 7, 4, 167, 0, 4, 3, 7, 182, 1, 137, 42, 182, 1, 141, 42]
abbrev dktX3_parseReader_0 : List UInt8 := dkwX3_parseReader_0 ++ dktX3_parseReader_1
theorem dksX3_parseReader_0 : cX3_parseReader.data.toList.drop 0 = dktX3_parseReader_0 := by decide +kernel
theorem dksX3_parseReader_1 : cX3_parseReader.data.toList.drop 24 = dktX3_parseReader_1 := dk_seg dksX3_parseReader_0 24 rfl rfl
theorem dksX3_parseReader_2 : cX3_parseReader.data.toList.drop 48 = dktX3_parseReader_2 := dk_seg dksX3_parseReader_1 24 rfl rfl
theorem dksX3_parseReader_3 : cX3_parseReader.data.toList.drop 72 = dktX3_parseReader_3 := dk_seg dksX3_parseReader_2 24 rfl rfl
theorem dX3_parseReader_0 : decode cX3_parseReader 0 = .ok (.aload_n 0, 1) := dk_42 (dk_at dksX3_parseReader_0 0 rfl rfl)
theorem dX3_parseReader_1 : decode cX3_parseReader 1 = .ok (.aload_n 0, 1) := dk_42 (dk_at dksX3_parseReader_0 1 rfl rfl)
theorem dX3_parseReader_2 : decode cX3_parseReader 2 = .ok (.invokevirtual 123, 3) := dk_182 0 123 (dk_at dksX3_parseReader_0 2 rfl rfl)
theorem dX3_parseReader_5 : decode cX3_parseReader 5 = .ok (.bipush 6, 2) := dk_16 6 (dk_at dksX3_parseReader_0 5 rfl rfl)
theorem dX3_parseReader_7 : decode cX3_parseReader 7 = .ok (.if_icmp .ge 7, 3) := dk_162 0 7 (dk_at dksX3_parseReader_0 7 rfl rfl)
theorem dX3_parseReader_10 : decode cX3_parseReader 10 = .ok (.iconst 1, 1) := dk_4 (dk_at dksX3_parseReader_0 10 rfl rfl)
theorem dX3_parseReader_11 : decode cX3_parseReader 11 = .ok (.goto 4, 3) := dk_167 0 4 (dk_at dksX3_parseReader_0 11 rfl rfl)
theorem dX3_parseReader_14 : decode cX3_parseReader 14 = .ok (.iconst 0, 1) := dk_3 (dk_at dksX3_parseReader_0 14 rfl rfl)
theorem dX3_parseReader_15 : decode cX3_parseReader 15 = .ok (.iconst 4, 1) := dk_7 (dk_at dksX3_parseReader_0 15 rfl rfl)
theorem dX3_parseReader_16 : decode cX3_parseReader 16 = .ok (.invokevirtual 393, 3) := dk_182 1 137 (dk_at dksX3_parseReader_0 16 rfl rfl)
theorem dX3_parseReader_19 : decode cX3_parseReader 19 = .ok (.aload_n 0, 1) := dk_42 (dk_at dksX3_parseReader_0 19 rfl rfl)
theorem dX3_parseReader_20 : decode cX3_parseReader 20 = .ok (.invokevirtual 397, 3) := dk_182 1 141 (dk_at dksX3_parseReader_0 20 rfl rfl)
theorem dX3_parseReader_23 : decode cX3_parseReader 23 = .ok (.aload_n 0, 1) := dk_42 (dk_at dksX3_parseReader_0 23 rfl rfl)
theorem dX3_parseReader_24 : decode cX3_parseReader 24 = .ok (.invokevirtual 407, 3) := dk_182 1 151 (dk_at dksX3_parseReader_1 0 rfl rfl)
theorem dX3_parseReader_27 : decode cX3_parseReader 27 = .ok (.aload_n 0, 1) := dk_42 (dk_at dksX3_parseReader_1 3 rfl rfl)
theorem dX3_parseReader_28 : decode cX3_parseReader 28 = .ok (.aload_n 0, 1) := dk_42 (dk_at dksX3_parseReader_1 4 rfl rfl)
theorem dX3_parseReader_29 : decode cX3_parseReader 29 = .ok (.invokevirtual 386, 3) := dk_182 1 130 (dk_at dksX3_parseReader_1 5 rfl rfl)
theorem dX3_parseReader_32 : decode cX3_parseReader 32 = .ok (.ifCond .eq 15, 3) := dk_153 0 15 (dk_at dksX3_parseReader_1 8 rfl rfl)
theorem dX3_parseReader_35 : decode cX3_parseReader 35 = .ok (.aload_n 0, 1) := dk_42 (dk_at dksX3_parseReader_1 11 rfl rfl)
theorem dX3_parseReader_36 : decode cX3_parseReader 36 = .ok (.aload_n 0, 1) := dk_42 (dk_at dksX3_parseReader_1 12 rfl rfl)
theorem dX3_parseReader_37 : decode cX3_parseReader 37 = .ok (.getfield 369, 3) := dk_180 1 113 (dk_at dksX3_parseReader_1 13 rfl rfl)
theorem dX3_parseReader_40 : decode cX3_parseReader 40 = .ok (.invokevirtual 223, 3) := dk_182 0 223 (dk_at dksX3_parseReader_1 16 rfl rfl)
theorem dX3_parseReader_43 : decode cX3_parseReader 43 = .ok (.iconst (-1), 1) := dk_2 (dk_at dksX3_parseReader_1 19 rfl rfl)
theorem dX3_parseReader_44 : decode cX3_parseReader 44 = .ok (.if_icmp .ne 7, 3) := dk_160 0 7 (dk_at dksX3_parseReader_1 20 rfl rfl)
theorem dX3_parseReader_47 : decode cX3_parseReader 47 = .ok (.iconst 1, 1) := dk_4 (dk_at dksX3_parseReader_1 23 rfl rfl)
theorem dX3_parseReader_48 : decode cX3_parseReader 48 = .ok (.goto 4, 3) := dk_167 0 4 (dk_at dksX3_parseReader_2 0 rfl rfl)
theorem dX3_parseReader_51 : decode cX3_parseReader 51 = .ok (.iconst 0, 1) := dk_3 (dk_at dksX3_parseReader_2 3 rfl rfl)
theorem dX3_parseReader_52 : decode cX3_parseReader 52 = .ok (.iconst 3, 1) := dk_6 (dk_at dksX3_parseReader_2 4 rfl rfl)
theorem dX3_parseReader_53 : decode cX3_parseReader 53 = .ok (.invokevirtual 393, 3) := dk_182 1 137 (dk_at dksX3_parseReader_2 5 rfl rfl)
theorem dX3_parseReader_56 : decode cX3_parseReader 56 = .ok (.aload_n 0, 1) := dk_42 (dk_at dksX3_parseReader_2 8 rfl rfl)
theorem dX3_parseReader_57 : decode cX3_parseReader 57 = .ok (.invokevirtual 386, 3) := dk_182 1 130 (dk_at dksX3_parseReader_2 9 rfl rfl)
theorem dX3_parseReader_60 : decode cX3_parseReader 60 = .ok (.ifCond .eq 12, 3) := dk_153 0 12 (dk_at dksX3_parseReader_2 12 rfl rfl)
theorem dX3_parseReader_63 : decode cX3_parseReader 63 = .ok (.aload_n 0, 1) := dk_42 (dk_at dksX3_parseReader_2 15 rfl rfl)
theorem dX3_parseReader_64 : decode cX3_parseReader 64 = .ok (.aload_n 0, 1) := dk_42 (dk_at dksX3_parseReader_2 16 rfl rfl)
theorem dX3_parseReader_65 : decode cX3_parseReader 65 = .ok (.getfield 369, 3) := dk_180 1 113 (dk_at dksX3_parseReader_2 17 rfl rfl)
theorem dX3_parseReader_68 : decode cX3_parseReader 68 = .ok (.invokevirtual 226, 3) := dk_182 0 226 (dk_at dksX3_parseReader_2 20 rfl rfl)
theorem dX3_parseReader_71 : decode cX3_parseReader 71 = .ok (.istore_n 1, 1) := dk_60 (dk_at dksX3_parseReader_2 23 rfl rfl)
theorem dX3_parseReader_72 : decode cX3_parseReader 72 = .ok (.aload_n 0, 1) := dk_42 (dk_at dksX3_parseReader_3 0 rfl rfl)
theorem dX3_parseReader_73 : decode cX3_parseReader 73 = .ok (.invokevirtual 397, 3) := dk_182 1 141 (dk_at dksX3_parseReader_3 1 rfl rfl)
theorem dX3_parseReader_76 : decode cX3_parseReader 76 = .ok (.return_, 1) := dk_177 (dk_at dksX3_parseReader_3 4 rfl rfl)
abbrev cX3_parseNote : ByteArray := prog_16_method_118_code
def yX3_parseNote : MethodName := ⟨RX3, "parseNote", "()V"⟩
def dkwX3_parseNote_7 : List UInt8 := [54, 4, 42, 19, 1, 188, 182, 1, 144, 153, 0, 9, 42, 21, 4, 182, 1, 189, 177]
abbrev dktX3_parseNote_7 : List UInt8 := dkwX3_parseNote_7 ++ []
def dkwX3_parseNote_6 : List UInt8 := [42, 182, 1, 130, 154, 0, 4, 177, 42, 28, 29, 27, 42, 180, 1, 164, 42, 180, 1, 169, 182, 0, 232]
abbrev dktX3_parseNote_6 : List UInt8 := dkwX3_parseNote_6 ++ dktX3_parseNote_7
def dkwX3_parseNote_5 : List UInt8 := [42, 42, 19, 1, 183, 182, 1, 144, 4, 182, 1, 137, 42, 182, 1, 130, 153, 0, 8, 42, 27, 182, 1, 185]
abbrev dktX3_parseNote_5 : List UInt8 := dkwX3_parseNote_5 ++ dktX3_parseNote_6
def dkwX3_parseNote_4 : List UInt8 := [182, 1, 130, 153, 0, 21, 42, 19, 1, 178, 182, 1, 144, 153, 0, 11, 42, 27, 182, 1, 180, 167, 0, 27]
abbrev dktX3_parseNote_4 : List UInt8 := dkwX3_parseNote_4 ++ dktX3_parseNote_5
def dkwX3_parseNote_3 : List UInt8 := [28, 2, 159, 0, 7, 4, 167, 0, 4, 3, 6, 182, 1, 137, 42, 182, 1, 141, 42, 182, 1, 175, 62, 42]
abbrev dktX3_parseNote_3 : List UInt8 := dkwX3_parseNote_3 ++ dktX3_parseNote_4
def dkwX3_parseNote_2 : List UInt8 := [182, 1, 151, 42, 182, 1, 130, 153, 0, 14, 42, 42, 180, 1, 113, 182, 0, 223, 167, 0, 4, 3, 61, 42]
abbrev dktX3_parseNote_2 : List UInt8 := dkwX3_parseNote_2 ++ dktX3_parseNote_3
def dkwX3_parseNote_1 : List UInt8 := [158, 0, 7, 4, 167, 0, 4, 3, 8, 182, 1, 137, 42, 182, 0, 107, 4, 100, 60, 42, 182, 1, 141, 42]
abbrev dktX3_parseNote_1 : List UInt8 := dkwX3_parseNote_1 ++ dktX3_parseNote_2
def dkwX3_parseNote_0 : List UInt8 := [42, 42, 182, 0, 126, 16, 40, 162, 0, 7, 4, 167, 0, 4, 3, 7, 182, 1, 137, 42, 42, 182, 0, 107]
abbrev dktX3_parseNote_0 : List UInt8 := dkwX3_parseNote_0 ++ dktX3_parseNote_1
theorem dksX3_parseNote_0 : cX3_parseNote.data.toList.drop 0 = dktX3_parseNote_0 := by decide +kernel
theorem dksX3_parseNote_1 : cX3_parseNote.data.toList.drop 24 = dktX3_parseNote_1 := dk_seg dksX3_parseNote_0 24 rfl rfl
theorem dksX3_parseNote_2 : cX3_parseNote.data.toList.drop 48 = dktX3_parseNote_2 := dk_seg dksX3_parseNote_1 24 rfl rfl
theorem dksX3_parseNote_3 : cX3_parseNote.data.toList.drop 72 = dktX3_parseNote_3 := dk_seg dksX3_parseNote_2 24 rfl rfl
theorem dksX3_parseNote_4 : cX3_parseNote.data.toList.drop 96 = dktX3_parseNote_4 := dk_seg dksX3_parseNote_3 24 rfl rfl
theorem dksX3_parseNote_5 : cX3_parseNote.data.toList.drop 120 = dktX3_parseNote_5 := dk_seg dksX3_parseNote_4 24 rfl rfl
theorem dksX3_parseNote_6 : cX3_parseNote.data.toList.drop 144 = dktX3_parseNote_6 := dk_seg dksX3_parseNote_5 24 rfl rfl
theorem dksX3_parseNote_7 : cX3_parseNote.data.toList.drop 167 = dktX3_parseNote_7 := dk_seg dksX3_parseNote_6 23 rfl rfl
theorem dX3_parseNote_0 : decode cX3_parseNote 0 = .ok (.aload_n 0, 1) := dk_42 (dk_at dksX3_parseNote_0 0 rfl rfl)
theorem dX3_parseNote_1 : decode cX3_parseNote 1 = .ok (.aload_n 0, 1) := dk_42 (dk_at dksX3_parseNote_0 1 rfl rfl)
theorem dX3_parseNote_2 : decode cX3_parseNote 2 = .ok (.invokevirtual 126, 3) := dk_182 0 126 (dk_at dksX3_parseNote_0 2 rfl rfl)
theorem dX3_parseNote_5 : decode cX3_parseNote 5 = .ok (.bipush 40, 2) := dk_16 40 (dk_at dksX3_parseNote_0 5 rfl rfl)
theorem dX3_parseNote_7 : decode cX3_parseNote 7 = .ok (.if_icmp .ge 7, 3) := dk_162 0 7 (dk_at dksX3_parseNote_0 7 rfl rfl)
theorem dX3_parseNote_10 : decode cX3_parseNote 10 = .ok (.iconst 1, 1) := dk_4 (dk_at dksX3_parseNote_0 10 rfl rfl)
theorem dX3_parseNote_11 : decode cX3_parseNote 11 = .ok (.goto 4, 3) := dk_167 0 4 (dk_at dksX3_parseNote_0 11 rfl rfl)
theorem dX3_parseNote_14 : decode cX3_parseNote 14 = .ok (.iconst 0, 1) := dk_3 (dk_at dksX3_parseNote_0 14 rfl rfl)
theorem dX3_parseNote_15 : decode cX3_parseNote 15 = .ok (.iconst 4, 1) := dk_7 (dk_at dksX3_parseNote_0 15 rfl rfl)
theorem dX3_parseNote_16 : decode cX3_parseNote 16 = .ok (.invokevirtual 393, 3) := dk_182 1 137 (dk_at dksX3_parseNote_0 16 rfl rfl)
theorem dX3_parseNote_19 : decode cX3_parseNote 19 = .ok (.aload_n 0, 1) := dk_42 (dk_at dksX3_parseNote_0 19 rfl rfl)
theorem dX3_parseNote_20 : decode cX3_parseNote 20 = .ok (.aload_n 0, 1) := dk_42 (dk_at dksX3_parseNote_0 20 rfl rfl)
theorem dX3_parseNote_21 : decode cX3_parseNote 21 = .ok (.invokevirtual 107, 3) := dk_182 0 107 (dk_at dksX3_parseNote_0 21 rfl rfl)
theorem dX3_parseNote_24 : decode cX3_parseNote 24 = .ok (.ifCond .le 7, 3) := dk_158 0 7 (dk_at dksX3_parseNote_1 0 rfl rfl)
theorem dX3_parseNote_27 : decode cX3_parseNote 27 = .ok (.iconst 1, 1) := dk_4 (dk_at dksX3_parseNote_1 3 rfl rfl)
theorem dX3_parseNote_28 : decode cX3_parseNote 28 = .ok (.goto 4, 3) := dk_167 0 4 (dk_at dksX3_parseNote_1 4 rfl rfl)
theorem dX3_parseNote_31 : decode cX3_parseNote 31 = .ok (.iconst 0, 1) := dk_3 (dk_at dksX3_parseNote_1 7 rfl rfl)
theorem dX3_parseNote_32 : decode cX3_parseNote 32 = .ok (.iconst 5, 1) := dk_8 (dk_at dksX3_parseNote_1 8 rfl rfl)
theorem dX3_parseNote_33 : decode cX3_parseNote 33 = .ok (.invokevirtual 393, 3) := dk_182 1 137 (dk_at dksX3_parseNote_1 9 rfl rfl)
theorem dX3_parseNote_36 : decode cX3_parseNote 36 = .ok (.aload_n 0, 1) := dk_42 (dk_at dksX3_parseNote_1 12 rfl rfl)
theorem dX3_parseNote_37 : decode cX3_parseNote 37 = .ok (.invokevirtual 107, 3) := dk_182 0 107 (dk_at dksX3_parseNote_1 13 rfl rfl)
theorem dX3_parseNote_40 : decode cX3_parseNote 40 = .ok (.iconst 1, 1) := dk_4 (dk_at dksX3_parseNote_1 16 rfl rfl)
theorem dX3_parseNote_41 : decode cX3_parseNote 41 = .ok (.isub, 1) := dk_100 (dk_at dksX3_parseNote_1 17 rfl rfl)
theorem dX3_parseNote_42 : decode cX3_parseNote 42 = .ok (.istore_n 1, 1) := dk_60 (dk_at dksX3_parseNote_1 18 rfl rfl)
theorem dX3_parseNote_43 : decode cX3_parseNote 43 = .ok (.aload_n 0, 1) := dk_42 (dk_at dksX3_parseNote_1 19 rfl rfl)
theorem dX3_parseNote_44 : decode cX3_parseNote 44 = .ok (.invokevirtual 397, 3) := dk_182 1 141 (dk_at dksX3_parseNote_1 20 rfl rfl)
theorem dX3_parseNote_47 : decode cX3_parseNote 47 = .ok (.aload_n 0, 1) := dk_42 (dk_at dksX3_parseNote_1 23 rfl rfl)
theorem dX3_parseNote_48 : decode cX3_parseNote 48 = .ok (.invokevirtual 407, 3) := dk_182 1 151 (dk_at dksX3_parseNote_2 0 rfl rfl)
theorem dX3_parseNote_51 : decode cX3_parseNote 51 = .ok (.aload_n 0, 1) := dk_42 (dk_at dksX3_parseNote_2 3 rfl rfl)
theorem dX3_parseNote_52 : decode cX3_parseNote 52 = .ok (.invokevirtual 386, 3) := dk_182 1 130 (dk_at dksX3_parseNote_2 4 rfl rfl)
theorem dX3_parseNote_55 : decode cX3_parseNote 55 = .ok (.ifCond .eq 14, 3) := dk_153 0 14 (dk_at dksX3_parseNote_2 7 rfl rfl)
theorem dX3_parseNote_58 : decode cX3_parseNote 58 = .ok (.aload_n 0, 1) := dk_42 (dk_at dksX3_parseNote_2 10 rfl rfl)
theorem dX3_parseNote_59 : decode cX3_parseNote 59 = .ok (.aload_n 0, 1) := dk_42 (dk_at dksX3_parseNote_2 11 rfl rfl)
theorem dX3_parseNote_60 : decode cX3_parseNote 60 = .ok (.getfield 369, 3) := dk_180 1 113 (dk_at dksX3_parseNote_2 12 rfl rfl)
theorem dX3_parseNote_63 : decode cX3_parseNote 63 = .ok (.invokevirtual 223, 3) := dk_182 0 223 (dk_at dksX3_parseNote_2 15 rfl rfl)
theorem dX3_parseNote_66 : decode cX3_parseNote 66 = .ok (.goto 4, 3) := dk_167 0 4 (dk_at dksX3_parseNote_2 18 rfl rfl)
theorem dX3_parseNote_69 : decode cX3_parseNote 69 = .ok (.iconst 0, 1) := dk_3 (dk_at dksX3_parseNote_2 21 rfl rfl)
theorem dX3_parseNote_70 : decode cX3_parseNote 70 = .ok (.istore_n 2, 1) := dk_61 (dk_at dksX3_parseNote_2 22 rfl rfl)
theorem dX3_parseNote_71 : decode cX3_parseNote 71 = .ok (.aload_n 0, 1) := dk_42 (dk_at dksX3_parseNote_2 23 rfl rfl)
theorem dX3_parseNote_72 : decode cX3_parseNote 72 = .ok (.iload_n 2, 1) := dk_28 (dk_at dksX3_parseNote_3 0 rfl rfl)
theorem dX3_parseNote_73 : decode cX3_parseNote 73 = .ok (.iconst (-1), 1) := dk_2 (dk_at dksX3_parseNote_3 1 rfl rfl)
theorem dX3_parseNote_74 : decode cX3_parseNote 74 = .ok (.if_icmp .eq 7, 3) := dk_159 0 7 (dk_at dksX3_parseNote_3 2 rfl rfl)
theorem dX3_parseNote_77 : decode cX3_parseNote 77 = .ok (.iconst 1, 1) := dk_4 (dk_at dksX3_parseNote_3 5 rfl rfl)
theorem dX3_parseNote_78 : decode cX3_parseNote 78 = .ok (.goto 4, 3) := dk_167 0 4 (dk_at dksX3_parseNote_3 6 rfl rfl)
theorem dX3_parseNote_81 : decode cX3_parseNote 81 = .ok (.iconst 0, 1) := dk_3 (dk_at dksX3_parseNote_3 9 rfl rfl)
theorem dX3_parseNote_82 : decode cX3_parseNote 82 = .ok (.iconst 3, 1) := dk_6 (dk_at dksX3_parseNote_3 10 rfl rfl)
theorem dX3_parseNote_83 : decode cX3_parseNote 83 = .ok (.invokevirtual 393, 3) := dk_182 1 137 (dk_at dksX3_parseNote_3 11 rfl rfl)
theorem dX3_parseNote_86 : decode cX3_parseNote 86 = .ok (.aload_n 0, 1) := dk_42 (dk_at dksX3_parseNote_3 14 rfl rfl)
theorem dX3_parseNote_87 : decode cX3_parseNote 87 = .ok (.invokevirtual 397, 3) := dk_182 1 141 (dk_at dksX3_parseNote_3 15 rfl rfl)
theorem dX3_parseNote_90 : decode cX3_parseNote 90 = .ok (.aload_n 0, 1) := dk_42 (dk_at dksX3_parseNote_3 18 rfl rfl)
theorem dX3_parseNote_91 : decode cX3_parseNote 91 = .ok (.invokevirtual 431, 3) := dk_182 1 175 (dk_at dksX3_parseNote_3 19 rfl rfl)
theorem dX3_parseNote_94 : decode cX3_parseNote 94 = .ok (.istore_n 3, 1) := dk_62 (dk_at dksX3_parseNote_3 22 rfl rfl)
theorem dX3_parseNote_95 : decode cX3_parseNote 95 = .ok (.aload_n 0, 1) := dk_42 (dk_at dksX3_parseNote_3 23 rfl rfl)
theorem dX3_parseNote_96 : decode cX3_parseNote 96 = .ok (.invokevirtual 386, 3) := dk_182 1 130 (dk_at dksX3_parseNote_4 0 rfl rfl)
theorem dX3_parseNote_99 : decode cX3_parseNote 99 = .ok (.ifCond .eq 21, 3) := dk_153 0 21 (dk_at dksX3_parseNote_4 3 rfl rfl)
theorem dX3_parseNote_102 : decode cX3_parseNote 102 = .ok (.aload_n 0, 1) := dk_42 (dk_at dksX3_parseNote_4 6 rfl rfl)
theorem dX3_parseNote_103 : decode cX3_parseNote 103 = .ok (.ldc_w 434, 3) := dk_19 1 178 (dk_at dksX3_parseNote_4 7 rfl rfl)
theorem dX3_parseNote_106 : decode cX3_parseNote 106 = .ok (.invokevirtual 400, 3) := dk_182 1 144 (dk_at dksX3_parseNote_4 10 rfl rfl)
theorem dX3_parseNote_109 : decode cX3_parseNote 109 = .ok (.ifCond .eq 11, 3) := dk_153 0 11 (dk_at dksX3_parseNote_4 13 rfl rfl)
theorem dX3_parseNote_112 : decode cX3_parseNote 112 = .ok (.aload_n 0, 1) := dk_42 (dk_at dksX3_parseNote_4 16 rfl rfl)
theorem dX3_parseNote_113 : decode cX3_parseNote 113 = .ok (.iload_n 1, 1) := dk_27 (dk_at dksX3_parseNote_4 17 rfl rfl)
theorem dX3_parseNote_114 : decode cX3_parseNote 114 = .ok (.invokevirtual 436, 3) := dk_182 1 180 (dk_at dksX3_parseNote_4 18 rfl rfl)
theorem dX3_parseNote_117 : decode cX3_parseNote 117 = .ok (.goto 27, 3) := dk_167 0 27 (dk_at dksX3_parseNote_4 21 rfl rfl)
theorem dX3_parseNote_120 : decode cX3_parseNote 120 = .ok (.aload_n 0, 1) := dk_42 (dk_at dksX3_parseNote_5 0 rfl rfl)
theorem dX3_parseNote_121 : decode cX3_parseNote 121 = .ok (.aload_n 0, 1) := dk_42 (dk_at dksX3_parseNote_5 1 rfl rfl)
theorem dX3_parseNote_122 : decode cX3_parseNote 122 = .ok (.ldc_w 439, 3) := dk_19 1 183 (dk_at dksX3_parseNote_5 2 rfl rfl)
theorem dX3_parseNote_125 : decode cX3_parseNote 125 = .ok (.invokevirtual 400, 3) := dk_182 1 144 (dk_at dksX3_parseNote_5 5 rfl rfl)
theorem dX3_parseNote_128 : decode cX3_parseNote 128 = .ok (.iconst 1, 1) := dk_4 (dk_at dksX3_parseNote_5 8 rfl rfl)
theorem dX3_parseNote_129 : decode cX3_parseNote 129 = .ok (.invokevirtual 393, 3) := dk_182 1 137 (dk_at dksX3_parseNote_5 9 rfl rfl)
theorem dX3_parseNote_132 : decode cX3_parseNote 132 = .ok (.aload_n 0, 1) := dk_42 (dk_at dksX3_parseNote_5 12 rfl rfl)
theorem dX3_parseNote_133 : decode cX3_parseNote 133 = .ok (.invokevirtual 386, 3) := dk_182 1 130 (dk_at dksX3_parseNote_5 13 rfl rfl)
theorem dX3_parseNote_136 : decode cX3_parseNote 136 = .ok (.ifCond .eq 8, 3) := dk_153 0 8 (dk_at dksX3_parseNote_5 16 rfl rfl)
theorem dX3_parseNote_139 : decode cX3_parseNote 139 = .ok (.aload_n 0, 1) := dk_42 (dk_at dksX3_parseNote_5 19 rfl rfl)
theorem dX3_parseNote_140 : decode cX3_parseNote 140 = .ok (.iload_n 1, 1) := dk_27 (dk_at dksX3_parseNote_5 20 rfl rfl)
theorem dX3_parseNote_141 : decode cX3_parseNote 141 = .ok (.invokevirtual 441, 3) := dk_182 1 185 (dk_at dksX3_parseNote_5 21 rfl rfl)
theorem dX3_parseNote_144 : decode cX3_parseNote 144 = .ok (.aload_n 0, 1) := dk_42 (dk_at dksX3_parseNote_6 0 rfl rfl)
theorem dX3_parseNote_145 : decode cX3_parseNote 145 = .ok (.invokevirtual 386, 3) := dk_182 1 130 (dk_at dksX3_parseNote_6 1 rfl rfl)
theorem dX3_parseNote_148 : decode cX3_parseNote 148 = .ok (.ifCond .ne 4, 3) := dk_154 0 4 (dk_at dksX3_parseNote_6 4 rfl rfl)
theorem dX3_parseNote_151 : decode cX3_parseNote 151 = .ok (.return_, 1) := dk_177 (dk_at dksX3_parseNote_6 7 rfl rfl)
theorem dX3_parseNote_152 : decode cX3_parseNote 152 = .ok (.aload_n 0, 1) := dk_42 (dk_at dksX3_parseNote_6 8 rfl rfl)
theorem dX3_parseNote_153 : decode cX3_parseNote 153 = .ok (.iload_n 2, 1) := dk_28 (dk_at dksX3_parseNote_6 9 rfl rfl)
theorem dX3_parseNote_154 : decode cX3_parseNote 154 = .ok (.iload_n 3, 1) := dk_29 (dk_at dksX3_parseNote_6 10 rfl rfl)
theorem dX3_parseNote_155 : decode cX3_parseNote 155 = .ok (.iload_n 1, 1) := dk_27 (dk_at dksX3_parseNote_6 11 rfl rfl)
theorem dX3_parseNote_156 : decode cX3_parseNote 156 = .ok (.aload_n 0, 1) := dk_42 (dk_at dksX3_parseNote_6 12 rfl rfl)
theorem dX3_parseNote_157 : decode cX3_parseNote 157 = .ok (.getfield 420, 3) := dk_180 1 164 (dk_at dksX3_parseNote_6 13 rfl rfl)
theorem dX3_parseNote_160 : decode cX3_parseNote 160 = .ok (.aload_n 0, 1) := dk_42 (dk_at dksX3_parseNote_6 16 rfl rfl)
theorem dX3_parseNote_161 : decode cX3_parseNote 161 = .ok (.getfield 425, 3) := dk_180 1 169 (dk_at dksX3_parseNote_6 17 rfl rfl)
theorem dX3_parseNote_164 : decode cX3_parseNote 164 = .ok (.invokevirtual 232, 3) := dk_182 0 232 (dk_at dksX3_parseNote_6 20 rfl rfl)
theorem dX3_parseNote_167 : decode cX3_parseNote 167 = .ok (.istore 4, 2) := dk_54 4 (dk_at dksX3_parseNote_7 0 rfl rfl)
theorem dX3_parseNote_169 : decode cX3_parseNote 169 = .ok (.aload_n 0, 1) := dk_42 (dk_at dksX3_parseNote_7 2 rfl rfl)
theorem dX3_parseNote_170 : decode cX3_parseNote 170 = .ok (.ldc_w 444, 3) := dk_19 1 188 (dk_at dksX3_parseNote_7 3 rfl rfl)
theorem dX3_parseNote_173 : decode cX3_parseNote 173 = .ok (.invokevirtual 400, 3) := dk_182 1 144 (dk_at dksX3_parseNote_7 6 rfl rfl)
theorem dX3_parseNote_176 : decode cX3_parseNote 176 = .ok (.ifCond .eq 9, 3) := dk_153 0 9 (dk_at dksX3_parseNote_7 9 rfl rfl)
theorem dX3_parseNote_179 : decode cX3_parseNote 179 = .ok (.aload_n 0, 1) := dk_42 (dk_at dksX3_parseNote_7 12 rfl rfl)
theorem dX3_parseNote_180 : decode cX3_parseNote 180 = .ok (.iload 4, 2) := dk_21 4 (dk_at dksX3_parseNote_7 13 rfl rfl)
theorem dX3_parseNote_182 : decode cX3_parseNote 182 = .ok (.invokevirtual 445, 3) := dk_182 1 189 (dk_at dksX3_parseNote_7 15 rfl rfl)
theorem dX3_parseNote_185 : decode cX3_parseNote 185 = .ok (.return_, 1) := dk_177 (dk_at dksX3_parseNote_7 18 rfl rfl)
abbrev cX3_parseKind : ByteArray := prog_16_method_112_code
def yX3_parseKind : MethodName := ⟨RX3, "parseKind", "()I"⟩
def dkwX3_parseKind_3 : List UInt8 := [182, 1, 137, 42, 182, 1, 141, 27, 172]
abbrev dktX3_parseKind_3 : List UInt8 := dkwX3_parseKind_3 ++ []
def dkwX3_parseKind_2 : List UInt8 := [182, 1, 144, 153, 0, 7, 6, 167, 0, 4, 2, 60, 42, 27, 2, 159, 0, 7, 4, 167, 0, 4, 3, 4]
abbrev dktX3_parseKind_2 : List UInt8 := dkwX3_parseKind_2 ++ dktX3_parseKind_3
def dkwX3_parseKind_1 : List UInt8 := [4, 167, 0, 32, 42, 19, 1, 81, 182, 1, 144, 153, 0, 7, 5, 167, 0, 18, 42, 19, 1, 83]
abbrev dktX3_parseKind_1 : List UInt8 := dkwX3_parseKind_1 ++ dktX3_parseKind_2
def dkwX3_parseKind_0 : List UInt8 := [42, 19, 1, 77, 182, 1, 144, 153, 0, 7, 3, 167, 0, 46, 42, 19, 1, 79, 182, 1, 144, 153, 0, 7]
abbrev dktX3_parseKind_0 : List UInt8 := dkwX3_parseKind_0 ++ dktX3_parseKind_1
theorem dksX3_parseKind_0 : cX3_parseKind.data.toList.drop 0 = dktX3_parseKind_0 := by decide +kernel
theorem dksX3_parseKind_1 : cX3_parseKind.data.toList.drop 24 = dktX3_parseKind_1 := dk_seg dksX3_parseKind_0 24 rfl rfl
theorem dksX3_parseKind_2 : cX3_parseKind.data.toList.drop 46 = dktX3_parseKind_2 := dk_seg dksX3_parseKind_1 22 rfl rfl
theorem dksX3_parseKind_3 : cX3_parseKind.data.toList.drop 70 = dktX3_parseKind_3 := dk_seg dksX3_parseKind_2 24 rfl rfl
theorem dX3_parseKind_0 : decode cX3_parseKind 0 = .ok (.aload_n 0, 1) := dk_42 (dk_at dksX3_parseKind_0 0 rfl rfl)
theorem dX3_parseKind_1 : decode cX3_parseKind 1 = .ok (.ldc_w 333, 3) := dk_19 1 77 (dk_at dksX3_parseKind_0 1 rfl rfl)
theorem dX3_parseKind_4 : decode cX3_parseKind 4 = .ok (.invokevirtual 400, 3) := dk_182 1 144 (dk_at dksX3_parseKind_0 4 rfl rfl)
theorem dX3_parseKind_7 : decode cX3_parseKind 7 = .ok (.ifCond .eq 7, 3) := dk_153 0 7 (dk_at dksX3_parseKind_0 7 rfl rfl)
theorem dX3_parseKind_10 : decode cX3_parseKind 10 = .ok (.iconst 0, 1) := dk_3 (dk_at dksX3_parseKind_0 10 rfl rfl)
theorem dX3_parseKind_11 : decode cX3_parseKind 11 = .ok (.goto 46, 3) := dk_167 0 46 (dk_at dksX3_parseKind_0 11 rfl rfl)
theorem dX3_parseKind_14 : decode cX3_parseKind 14 = .ok (.aload_n 0, 1) := dk_42 (dk_at dksX3_parseKind_0 14 rfl rfl)
theorem dX3_parseKind_15 : decode cX3_parseKind 15 = .ok (.ldc_w 335, 3) := dk_19 1 79 (dk_at dksX3_parseKind_0 15 rfl rfl)
theorem dX3_parseKind_18 : decode cX3_parseKind 18 = .ok (.invokevirtual 400, 3) := dk_182 1 144 (dk_at dksX3_parseKind_0 18 rfl rfl)
theorem dX3_parseKind_21 : decode cX3_parseKind 21 = .ok (.ifCond .eq 7, 3) := dk_153 0 7 (dk_at dksX3_parseKind_0 21 rfl rfl)
theorem dX3_parseKind_24 : decode cX3_parseKind 24 = .ok (.iconst 1, 1) := dk_4 (dk_at dksX3_parseKind_1 0 rfl rfl)
theorem dX3_parseKind_25 : decode cX3_parseKind 25 = .ok (.goto 32, 3) := dk_167 0 32 (dk_at dksX3_parseKind_1 1 rfl rfl)
theorem dX3_parseKind_28 : decode cX3_parseKind 28 = .ok (.aload_n 0, 1) := dk_42 (dk_at dksX3_parseKind_1 4 rfl rfl)
theorem dX3_parseKind_29 : decode cX3_parseKind 29 = .ok (.ldc_w 337, 3) := dk_19 1 81 (dk_at dksX3_parseKind_1 5 rfl rfl)
theorem dX3_parseKind_32 : decode cX3_parseKind 32 = .ok (.invokevirtual 400, 3) := dk_182 1 144 (dk_at dksX3_parseKind_1 8 rfl rfl)
theorem dX3_parseKind_35 : decode cX3_parseKind 35 = .ok (.ifCond .eq 7, 3) := dk_153 0 7 (dk_at dksX3_parseKind_1 11 rfl rfl)
theorem dX3_parseKind_38 : decode cX3_parseKind 38 = .ok (.iconst 2, 1) := dk_5 (dk_at dksX3_parseKind_1 14 rfl rfl)
theorem dX3_parseKind_39 : decode cX3_parseKind 39 = .ok (.goto 18, 3) := dk_167 0 18 (dk_at dksX3_parseKind_1 15 rfl rfl)
theorem dX3_parseKind_42 : decode cX3_parseKind 42 = .ok (.aload_n 0, 1) := dk_42 (dk_at dksX3_parseKind_1 18 rfl rfl)
theorem dX3_parseKind_43 : decode cX3_parseKind 43 = .ok (.ldc_w 339, 3) := dk_19 1 83 (dk_at dksX3_parseKind_1 19 rfl rfl)
theorem dX3_parseKind_46 : decode cX3_parseKind 46 = .ok (.invokevirtual 400, 3) := dk_182 1 144 (dk_at dksX3_parseKind_2 0 rfl rfl)
theorem dX3_parseKind_49 : decode cX3_parseKind 49 = .ok (.ifCond .eq 7, 3) := dk_153 0 7 (dk_at dksX3_parseKind_2 3 rfl rfl)
theorem dX3_parseKind_52 : decode cX3_parseKind 52 = .ok (.iconst 3, 1) := dk_6 (dk_at dksX3_parseKind_2 6 rfl rfl)
theorem dX3_parseKind_53 : decode cX3_parseKind 53 = .ok (.goto 4, 3) := dk_167 0 4 (dk_at dksX3_parseKind_2 7 rfl rfl)
theorem dX3_parseKind_56 : decode cX3_parseKind 56 = .ok (.iconst (-1), 1) := dk_2 (dk_at dksX3_parseKind_2 10 rfl rfl)
theorem dX3_parseKind_57 : decode cX3_parseKind 57 = .ok (.istore_n 1, 1) := dk_60 (dk_at dksX3_parseKind_2 11 rfl rfl)
theorem dX3_parseKind_58 : decode cX3_parseKind 58 = .ok (.aload_n 0, 1) := dk_42 (dk_at dksX3_parseKind_2 12 rfl rfl)
theorem dX3_parseKind_59 : decode cX3_parseKind 59 = .ok (.iload_n 1, 1) := dk_27 (dk_at dksX3_parseKind_2 13 rfl rfl)
theorem dX3_parseKind_60 : decode cX3_parseKind 60 = .ok (.iconst (-1), 1) := dk_2 (dk_at dksX3_parseKind_2 14 rfl rfl)
theorem dX3_parseKind_61 : decode cX3_parseKind 61 = .ok (.if_icmp .eq 7, 3) := dk_159 0 7 (dk_at dksX3_parseKind_2 15 rfl rfl)
theorem dX3_parseKind_64 : decode cX3_parseKind 64 = .ok (.iconst 1, 1) := dk_4 (dk_at dksX3_parseKind_2 18 rfl rfl)
theorem dX3_parseKind_65 : decode cX3_parseKind 65 = .ok (.goto 4, 3) := dk_167 0 4 (dk_at dksX3_parseKind_2 19 rfl rfl)
theorem dX3_parseKind_68 : decode cX3_parseKind 68 = .ok (.iconst 0, 1) := dk_3 (dk_at dksX3_parseKind_2 22 rfl rfl)
theorem dX3_parseKind_69 : decode cX3_parseKind 69 = .ok (.iconst 1, 1) := dk_4 (dk_at dksX3_parseKind_2 23 rfl rfl)
theorem dX3_parseKind_70 : decode cX3_parseKind 70 = .ok (.invokevirtual 393, 3) := dk_182 1 137 (dk_at dksX3_parseKind_3 0 rfl rfl)
theorem dX3_parseKind_73 : decode cX3_parseKind 73 = .ok (.aload_n 0, 1) := dk_42 (dk_at dksX3_parseKind_3 3 rfl rfl)
theorem dX3_parseKind_74 : decode cX3_parseKind 74 = .ok (.invokevirtual 397, 3) := dk_182 1 141 (dk_at dksX3_parseKind_3 4 rfl rfl)
theorem dX3_parseKind_77 : decode cX3_parseKind 77 = .ok (.iload_n 1, 1) := dk_27 (dk_at dksX3_parseKind_3 7 rfl rfl)
theorem dX3_parseKind_78 : decode cX3_parseKind 78 = .ok (.ireturn, 1) := dk_172 (dk_at dksX3_parseKind_3 8 rfl rfl)
abbrev cX3_parsePage : ByteArray := prog_16_method_114_code
def yX3_parsePage : MethodName := ⟨RX3, "parsePage", "(I)V"⟩
def dkwX3_parsePage_7 : List UInt8 := [27, 182, 0, 119, 42, 180, 1, 164, 100, 182, 1, 148, 96, 4, 100, 181, 1, 169, 177]
abbrev dktX3_parsePage_7 : List UInt8 := dkwX3_parsePage_7 ++ []
def dkwX3_parsePage_6 : List UInt8 := [4, 100, 182, 1, 148, 96, 181, 1, 164, 42, 19, 1, 167, 182, 1, 156, 42, 42, 180, 1, 164, 42, 4, 42]
abbrev dktX3_parsePage_6 : List UInt8 := dkwX3_parsePage_6 ++ dktX3_parsePage_7
def dkwX3_parsePage_5 : List UInt8 := [21, 5, 21, 6, 96, 46, 21, 4, 160, 0, 9, 132, 6, 1, 167, 255, 218, 42, 21, 5, 42, 3, 21, 6]
abbrev dktX3_parsePage_5 : List UInt8 := dkwX3_parsePage_5 ++ dktX3_parsePage_6
def dkwX3_parsePage_4 : List UInt8 := [182, 1, 130, 153, 0, 37, 21, 5, 21, 6, 96, 42, 27, 182, 0, 119, 162, 0, 24, 42, 180, 0, 39]
abbrev dktX3_parsePage_4 : List UInt8 := dkwX3_parsePage_4 ++ dktX3_parsePage_5
def dkwX3_parsePage_3 : List UInt8 := [182, 1, 130, 153, 0, 13, 42, 27, 21, 4, 182, 1, 161, 167, 0, 4, 3, 54, 5, 3, 54, 6, 42]
abbrev dktX3_parsePage_3 : List UInt8 := dkwX3_parsePage_3 ++ dktX3_parsePage_4
def dkwX3_parsePage_2 : List UInt8 := [29, 28, 104, 100, 184, 0, 215, 4, 100, 182, 1, 148, 96, 54, 4, 42, 19, 1, 160, 182, 1, 156, 42]
abbrev dktX3_parsePage_2 : List UInt8 := dkwX3_parsePage_2 ++ dktX3_parsePage_3
def dkwX3_parsePage_1 : List UInt8 := [19, 1, 154, 182, 1, 156, 42, 27, 5, 182, 0, 103, 62, 29, 28, 104, 42, 3, 29, 42, 27, 182, 0, 188]
abbrev dktX3_parsePage_1 : List UInt8 := dkwX3_parsePage_1 ++ dktX3_parsePage_2
def dkwX3_parsePage_0 : List UInt8 := [42, 27, 182, 0, 191, 42, 182, 1, 141, 42, 3, 42, 27, 182, 0, 195, 4, 100, 182, 1, 148, 61, 42]
abbrev dktX3_parsePage_0 : List UInt8 := dkwX3_parsePage_0 ++ dktX3_parsePage_1
theorem dksX3_parsePage_0 : cX3_parsePage.data.toList.drop 0 = dktX3_parsePage_0 := by decide +kernel
theorem dksX3_parsePage_1 : cX3_parsePage.data.toList.drop 23 = dktX3_parsePage_1 := dk_seg dksX3_parsePage_0 23 rfl rfl
theorem dksX3_parsePage_2 : cX3_parsePage.data.toList.drop 47 = dktX3_parsePage_2 := dk_seg dksX3_parsePage_1 24 rfl rfl
theorem dksX3_parsePage_3 : cX3_parsePage.data.toList.drop 70 = dktX3_parsePage_3 := dk_seg dksX3_parsePage_2 23 rfl rfl
theorem dksX3_parsePage_4 : cX3_parsePage.data.toList.drop 93 = dktX3_parsePage_4 := dk_seg dksX3_parsePage_3 23 rfl rfl
theorem dksX3_parsePage_5 : cX3_parsePage.data.toList.drop 116 = dktX3_parsePage_5 := dk_seg dksX3_parsePage_4 23 rfl rfl
theorem dksX3_parsePage_6 : cX3_parsePage.data.toList.drop 140 = dktX3_parsePage_6 := dk_seg dksX3_parsePage_5 24 rfl rfl
theorem dksX3_parsePage_7 : cX3_parsePage.data.toList.drop 164 = dktX3_parsePage_7 := dk_seg dksX3_parsePage_6 24 rfl rfl
theorem dX3_parsePage_0 : decode cX3_parsePage 0 = .ok (.aload_n 0, 1) := dk_42 (dk_at dksX3_parsePage_0 0 rfl rfl)
theorem dX3_parsePage_1 : decode cX3_parsePage 1 = .ok (.iload_n 1, 1) := dk_27 (dk_at dksX3_parsePage_0 1 rfl rfl)
theorem dX3_parsePage_2 : decode cX3_parsePage 2 = .ok (.invokevirtual 191, 3) := dk_182 0 191 (dk_at dksX3_parsePage_0 2 rfl rfl)
theorem dX3_parsePage_5 : decode cX3_parsePage 5 = .ok (.aload_n 0, 1) := dk_42 (dk_at dksX3_parsePage_0 5 rfl rfl)
theorem dX3_parsePage_6 : decode cX3_parsePage 6 = .ok (.invokevirtual 397, 3) := dk_182 1 141 (dk_at dksX3_parsePage_0 6 rfl rfl)
theorem dX3_parsePage_9 : decode cX3_parsePage 9 = .ok (.aload_n 0, 1) := dk_42 (dk_at dksX3_parsePage_0 9 rfl rfl)
theorem dX3_parsePage_10 : decode cX3_parsePage 10 = .ok (.iconst 0, 1) := dk_3 (dk_at dksX3_parsePage_0 10 rfl rfl)
theorem dX3_parsePage_11 : decode cX3_parsePage 11 = .ok (.aload_n 0, 1) := dk_42 (dk_at dksX3_parsePage_0 11 rfl rfl)
theorem dX3_parsePage_12 : decode cX3_parsePage 12 = .ok (.iload_n 1, 1) := dk_27 (dk_at dksX3_parsePage_0 12 rfl rfl)
theorem dX3_parsePage_13 : decode cX3_parsePage 13 = .ok (.invokevirtual 195, 3) := dk_182 0 195 (dk_at dksX3_parsePage_0 13 rfl rfl)
theorem dX3_parsePage_16 : decode cX3_parsePage 16 = .ok (.iconst 1, 1) := dk_4 (dk_at dksX3_parsePage_0 16 rfl rfl)
theorem dX3_parsePage_17 : decode cX3_parsePage 17 = .ok (.isub, 1) := dk_100 (dk_at dksX3_parsePage_0 17 rfl rfl)
theorem dX3_parsePage_18 : decode cX3_parsePage 18 = .ok (.invokevirtual 404, 3) := dk_182 1 148 (dk_at dksX3_parsePage_0 18 rfl rfl)
theorem dX3_parsePage_21 : decode cX3_parsePage 21 = .ok (.istore_n 2, 1) := dk_61 (dk_at dksX3_parsePage_0 21 rfl rfl)
theorem dX3_parsePage_22 : decode cX3_parsePage 22 = .ok (.aload_n 0, 1) := dk_42 (dk_at dksX3_parsePage_0 22 rfl rfl)
theorem dX3_parsePage_23 : decode cX3_parsePage 23 = .ok (.ldc_w 410, 3) := dk_19 1 154 (dk_at dksX3_parsePage_1 0 rfl rfl)
theorem dX3_parsePage_26 : decode cX3_parsePage 26 = .ok (.invokevirtual 412, 3) := dk_182 1 156 (dk_at dksX3_parsePage_1 3 rfl rfl)
theorem dX3_parsePage_29 : decode cX3_parsePage 29 = .ok (.aload_n 0, 1) := dk_42 (dk_at dksX3_parsePage_1 6 rfl rfl)
theorem dX3_parsePage_30 : decode cX3_parsePage 30 = .ok (.iload_n 1, 1) := dk_27 (dk_at dksX3_parsePage_1 7 rfl rfl)
theorem dX3_parsePage_31 : decode cX3_parsePage 31 = .ok (.iconst 2, 1) := dk_5 (dk_at dksX3_parsePage_1 8 rfl rfl)
theorem dX3_parsePage_32 : decode cX3_parsePage 32 = .ok (.invokevirtual 103, 3) := dk_182 0 103 (dk_at dksX3_parsePage_1 9 rfl rfl)
theorem dX3_parsePage_35 : decode cX3_parsePage 35 = .ok (.istore_n 3, 1) := dk_62 (dk_at dksX3_parsePage_1 12 rfl rfl)
theorem dX3_parsePage_36 : decode cX3_parsePage 36 = .ok (.iload_n 3, 1) := dk_29 (dk_at dksX3_parsePage_1 13 rfl rfl)
theorem dX3_parsePage_37 : decode cX3_parsePage 37 = .ok (.iload_n 2, 1) := dk_28 (dk_at dksX3_parsePage_1 14 rfl rfl)
theorem dX3_parsePage_38 : decode cX3_parsePage 38 = .ok (.imul, 1) := dk_104 (dk_at dksX3_parsePage_1 15 rfl rfl)
theorem dX3_parsePage_39 : decode cX3_parsePage 39 = .ok (.aload_n 0, 1) := dk_42 (dk_at dksX3_parsePage_1 16 rfl rfl)
theorem dX3_parsePage_40 : decode cX3_parsePage 40 = .ok (.iconst 0, 1) := dk_3 (dk_at dksX3_parsePage_1 17 rfl rfl)
theorem dX3_parsePage_41 : decode cX3_parsePage 41 = .ok (.iload_n 3, 1) := dk_29 (dk_at dksX3_parsePage_1 18 rfl rfl)
theorem dX3_parsePage_42 : decode cX3_parsePage 42 = .ok (.aload_n 0, 1) := dk_42 (dk_at dksX3_parsePage_1 19 rfl rfl)
theorem dX3_parsePage_43 : decode cX3_parsePage 43 = .ok (.iload_n 1, 1) := dk_27 (dk_at dksX3_parsePage_1 20 rfl rfl)
theorem dX3_parsePage_44 : decode cX3_parsePage 44 = .ok (.invokevirtual 188, 3) := dk_182 0 188 (dk_at dksX3_parsePage_1 21 rfl rfl)
theorem dX3_parsePage_47 : decode cX3_parsePage 47 = .ok (.iload_n 3, 1) := dk_29 (dk_at dksX3_parsePage_2 0 rfl rfl)
theorem dX3_parsePage_48 : decode cX3_parsePage 48 = .ok (.iload_n 2, 1) := dk_28 (dk_at dksX3_parsePage_2 1 rfl rfl)
theorem dX3_parsePage_49 : decode cX3_parsePage 49 = .ok (.imul, 1) := dk_104 (dk_at dksX3_parsePage_2 2 rfl rfl)
theorem dX3_parsePage_50 : decode cX3_parsePage 50 = .ok (.isub, 1) := dk_100 (dk_at dksX3_parsePage_2 3 rfl rfl)
theorem dX3_parsePage_51 : decode cX3_parsePage 51 = .ok (.invokestatic 215, 3) := dk_184 0 215 (dk_at dksX3_parsePage_2 4 rfl rfl)
theorem dX3_parsePage_54 : decode cX3_parsePage 54 = .ok (.iconst 1, 1) := dk_4 (dk_at dksX3_parsePage_2 7 rfl rfl)
theorem dX3_parsePage_55 : decode cX3_parsePage 55 = .ok (.isub, 1) := dk_100 (dk_at dksX3_parsePage_2 8 rfl rfl)
theorem dX3_parsePage_56 : decode cX3_parsePage 56 = .ok (.invokevirtual 404, 3) := dk_182 1 148 (dk_at dksX3_parsePage_2 9 rfl rfl)
theorem dX3_parsePage_59 : decode cX3_parsePage 59 = .ok (.iadd, 1) := dk_96 (dk_at dksX3_parsePage_2 12 rfl rfl)
theorem dX3_parsePage_60 : decode cX3_parsePage 60 = .ok (.istore 4, 2) := dk_54 4 (dk_at dksX3_parsePage_2 13 rfl rfl)
theorem dX3_parsePage_62 : decode cX3_parsePage 62 = .ok (.aload_n 0, 1) := dk_42 (dk_at dksX3_parsePage_2 15 rfl rfl)
theorem dX3_parsePage_63 : decode cX3_parsePage 63 = .ok (.ldc_w 416, 3) := dk_19 1 160 (dk_at dksX3_parsePage_2 16 rfl rfl)
theorem dX3_parsePage_66 : decode cX3_parsePage 66 = .ok (.invokevirtual 412, 3) := dk_182 1 156 (dk_at dksX3_parsePage_2 19 rfl rfl)
theorem dX3_parsePage_69 : decode cX3_parsePage 69 = .ok (.aload_n 0, 1) := dk_42 (dk_at dksX3_parsePage_2 22 rfl rfl)
theorem dX3_parsePage_70 : decode cX3_parsePage 70 = .ok (.invokevirtual 386, 3) := dk_182 1 130 (dk_at dksX3_parsePage_3 0 rfl rfl)
theorem dX3_parsePage_73 : decode cX3_parsePage 73 = .ok (.ifCond .eq 13, 3) := dk_153 0 13 (dk_at dksX3_parsePage_3 3 rfl rfl)
theorem dX3_parsePage_76 : decode cX3_parsePage 76 = .ok (.aload_n 0, 1) := dk_42 (dk_at dksX3_parsePage_3 6 rfl rfl)
theorem dX3_parsePage_77 : decode cX3_parsePage 77 = .ok (.iload_n 1, 1) := dk_27 (dk_at dksX3_parsePage_3 7 rfl rfl)
theorem dX3_parsePage_78 : decode cX3_parsePage 78 = .ok (.iload 4, 2) := dk_21 4 (dk_at dksX3_parsePage_3 8 rfl rfl)
theorem dX3_parsePage_80 : decode cX3_parsePage 80 = .ok (.invokevirtual 417, 3) := dk_182 1 161 (dk_at dksX3_parsePage_3 10 rfl rfl)
theorem dX3_parsePage_83 : decode cX3_parsePage 83 = .ok (.goto 4, 3) := dk_167 0 4 (dk_at dksX3_parsePage_3 13 rfl rfl)
theorem dX3_parsePage_86 : decode cX3_parsePage 86 = .ok (.iconst 0, 1) := dk_3 (dk_at dksX3_parsePage_3 16 rfl rfl)
theorem dX3_parsePage_87 : decode cX3_parsePage 87 = .ok (.istore 5, 2) := dk_54 5 (dk_at dksX3_parsePage_3 17 rfl rfl)
theorem dX3_parsePage_89 : decode cX3_parsePage 89 = .ok (.iconst 0, 1) := dk_3 (dk_at dksX3_parsePage_3 19 rfl rfl)
theorem dX3_parsePage_90 : decode cX3_parsePage 90 = .ok (.istore 6, 2) := dk_54 6 (dk_at dksX3_parsePage_3 20 rfl rfl)
theorem dX3_parsePage_92 : decode cX3_parsePage 92 = .ok (.aload_n 0, 1) := dk_42 (dk_at dksX3_parsePage_3 22 rfl rfl)
theorem dX3_parsePage_93 : decode cX3_parsePage 93 = .ok (.invokevirtual 386, 3) := dk_182 1 130 (dk_at dksX3_parsePage_4 0 rfl rfl)
theorem dX3_parsePage_96 : decode cX3_parsePage 96 = .ok (.ifCond .eq 37, 3) := dk_153 0 37 (dk_at dksX3_parsePage_4 3 rfl rfl)
theorem dX3_parsePage_99 : decode cX3_parsePage 99 = .ok (.iload 5, 2) := dk_21 5 (dk_at dksX3_parsePage_4 6 rfl rfl)
theorem dX3_parsePage_101 : decode cX3_parsePage 101 = .ok (.iload 6, 2) := dk_21 6 (dk_at dksX3_parsePage_4 8 rfl rfl)
theorem dX3_parsePage_103 : decode cX3_parsePage 103 = .ok (.iadd, 1) := dk_96 (dk_at dksX3_parsePage_4 10 rfl rfl)
theorem dX3_parsePage_104 : decode cX3_parsePage 104 = .ok (.aload_n 0, 1) := dk_42 (dk_at dksX3_parsePage_4 11 rfl rfl)
theorem dX3_parsePage_105 : decode cX3_parsePage 105 = .ok (.iload_n 1, 1) := dk_27 (dk_at dksX3_parsePage_4 12 rfl rfl)
theorem dX3_parsePage_106 : decode cX3_parsePage 106 = .ok (.invokevirtual 119, 3) := dk_182 0 119 (dk_at dksX3_parsePage_4 13 rfl rfl)
theorem dX3_parsePage_109 : decode cX3_parsePage 109 = .ok (.if_icmp .ge 24, 3) := dk_162 0 24 (dk_at dksX3_parsePage_4 16 rfl rfl)
theorem dX3_parsePage_112 : decode cX3_parsePage 112 = .ok (.aload_n 0, 1) := dk_42 (dk_at dksX3_parsePage_4 19 rfl rfl)
theorem dX3_parsePage_113 : decode cX3_parsePage 113 = .ok (.getfield 39, 3) := dk_180 0 39 (dk_at dksX3_parsePage_4 20 rfl rfl)
theorem dX3_parsePage_116 : decode cX3_parsePage 116 = .ok (.iload 5, 2) := dk_21 5 (dk_at dksX3_parsePage_5 0 rfl rfl)
theorem dX3_parsePage_118 : decode cX3_parsePage 118 = .ok (.iload 6, 2) := dk_21 6 (dk_at dksX3_parsePage_5 2 rfl rfl)
theorem dX3_parsePage_120 : decode cX3_parsePage 120 = .ok (.iadd, 1) := dk_96 (dk_at dksX3_parsePage_5 4 rfl rfl)
theorem dX3_parsePage_121 : decode cX3_parsePage 121 = .ok (.iaload, 1) := dk_46 (dk_at dksX3_parsePage_5 5 rfl rfl)
theorem dX3_parsePage_122 : decode cX3_parsePage 122 = .ok (.iload 4, 2) := dk_21 4 (dk_at dksX3_parsePage_5 6 rfl rfl)
theorem dX3_parsePage_124 : decode cX3_parsePage 124 = .ok (.if_icmp .ne 9, 3) := dk_160 0 9 (dk_at dksX3_parsePage_5 8 rfl rfl)
theorem dX3_parsePage_127 : decode cX3_parsePage 127 = .ok (.iinc 6 1, 3) := dk_132 6 1 (dk_at dksX3_parsePage_5 11 rfl rfl)
theorem dX3_parsePage_130 : decode cX3_parsePage 130 = .ok (.goto (-38), 3) := dk_167 255 218 (dk_at dksX3_parsePage_5 14 rfl rfl)
theorem dX3_parsePage_133 : decode cX3_parsePage 133 = .ok (.aload_n 0, 1) := dk_42 (dk_at dksX3_parsePage_5 17 rfl rfl)
theorem dX3_parsePage_134 : decode cX3_parsePage 134 = .ok (.iload 5, 2) := dk_21 5 (dk_at dksX3_parsePage_5 18 rfl rfl)
theorem dX3_parsePage_136 : decode cX3_parsePage 136 = .ok (.aload_n 0, 1) := dk_42 (dk_at dksX3_parsePage_5 20 rfl rfl)
theorem dX3_parsePage_137 : decode cX3_parsePage 137 = .ok (.iconst 0, 1) := dk_3 (dk_at dksX3_parsePage_5 21 rfl rfl)
theorem dX3_parsePage_138 : decode cX3_parsePage 138 = .ok (.iload 6, 2) := dk_21 6 (dk_at dksX3_parsePage_5 22 rfl rfl)
theorem dX3_parsePage_140 : decode cX3_parsePage 140 = .ok (.iconst 1, 1) := dk_4 (dk_at dksX3_parsePage_6 0 rfl rfl)
theorem dX3_parsePage_141 : decode cX3_parsePage 141 = .ok (.isub, 1) := dk_100 (dk_at dksX3_parsePage_6 1 rfl rfl)
theorem dX3_parsePage_142 : decode cX3_parsePage 142 = .ok (.invokevirtual 404, 3) := dk_182 1 148 (dk_at dksX3_parsePage_6 2 rfl rfl)
theorem dX3_parsePage_145 : decode cX3_parsePage 145 = .ok (.iadd, 1) := dk_96 (dk_at dksX3_parsePage_6 5 rfl rfl)
theorem dX3_parsePage_146 : decode cX3_parsePage 146 = .ok (.putfield 420, 3) := dk_181 1 164 (dk_at dksX3_parsePage_6 6 rfl rfl)
theorem dX3_parsePage_149 : decode cX3_parsePage 149 = .ok (.aload_n 0, 1) := dk_42 (dk_at dksX3_parsePage_6 9 rfl rfl)
theorem dX3_parsePage_150 : decode cX3_parsePage 150 = .ok (.ldc_w 423, 3) := dk_19 1 167 (dk_at dksX3_parsePage_6 10 rfl rfl)
theorem dX3_parsePage_153 : decode cX3_parsePage 153 = .ok (.invokevirtual 412, 3) := dk_182 1 156 (dk_at dksX3_parsePage_6 13 rfl rfl)
theorem dX3_parsePage_156 : decode cX3_parsePage 156 = .ok (.aload_n 0, 1) := dk_42 (dk_at dksX3_parsePage_6 16 rfl rfl)
theorem dX3_parsePage_157 : decode cX3_parsePage 157 = .ok (.aload_n 0, 1) := dk_42 (dk_at dksX3_parsePage_6 17 rfl rfl)
theorem dX3_parsePage_158 : decode cX3_parsePage 158 = .ok (.getfield 420, 3) := dk_180 1 164 (dk_at dksX3_parsePage_6 18 rfl rfl)
theorem dX3_parsePage_161 : decode cX3_parsePage 161 = .ok (.aload_n 0, 1) := dk_42 (dk_at dksX3_parsePage_6 21 rfl rfl)
theorem dX3_parsePage_162 : decode cX3_parsePage 162 = .ok (.iconst 1, 1) := dk_4 (dk_at dksX3_parsePage_6 22 rfl rfl)
theorem dX3_parsePage_163 : decode cX3_parsePage 163 = .ok (.aload_n 0, 1) := dk_42 (dk_at dksX3_parsePage_6 23 rfl rfl)
theorem dX3_parsePage_164 : decode cX3_parsePage 164 = .ok (.iload_n 1, 1) := dk_27 (dk_at dksX3_parsePage_7 0 rfl rfl)
theorem dX3_parsePage_165 : decode cX3_parsePage 165 = .ok (.invokevirtual 119, 3) := dk_182 0 119 (dk_at dksX3_parsePage_7 1 rfl rfl)
theorem dX3_parsePage_168 : decode cX3_parsePage 168 = .ok (.aload_n 0, 1) := dk_42 (dk_at dksX3_parsePage_7 4 rfl rfl)
theorem dX3_parsePage_169 : decode cX3_parsePage 169 = .ok (.getfield 420, 3) := dk_180 1 164 (dk_at dksX3_parsePage_7 5 rfl rfl)
theorem dX3_parsePage_172 : decode cX3_parsePage 172 = .ok (.isub, 1) := dk_100 (dk_at dksX3_parsePage_7 8 rfl rfl)
theorem dX3_parsePage_173 : decode cX3_parsePage 173 = .ok (.invokevirtual 404, 3) := dk_182 1 148 (dk_at dksX3_parsePage_7 9 rfl rfl)
theorem dX3_parsePage_176 : decode cX3_parsePage 176 = .ok (.iadd, 1) := dk_96 (dk_at dksX3_parsePage_7 12 rfl rfl)
theorem dX3_parsePage_177 : decode cX3_parsePage 177 = .ok (.iconst 1, 1) := dk_4 (dk_at dksX3_parsePage_7 13 rfl rfl)
theorem dX3_parsePage_178 : decode cX3_parsePage 178 = .ok (.isub, 1) := dk_100 (dk_at dksX3_parsePage_7 14 rfl rfl)
theorem dX3_parsePage_179 : decode cX3_parsePage 179 = .ok (.putfield 425, 3) := dk_181 1 169 (dk_at dksX3_parsePage_7 15 rfl rfl)
theorem dX3_parsePage_182 : decode cX3_parsePage 182 = .ok (.return_, 1) := dk_177 (dk_at dksX3_parsePage_7 18 rfl rfl)
abbrev cX3_parseKey : ByteArray := prog_16_method_108_code
def yX3_parseKey : MethodName := ⟨RX3, "parseKey", "(Ljava/lang/String;)V"⟩
def dkwX3_parseKey_0 : List UInt8 := [42, 42, 43, 182, 1, 144, 4, 182, 1, 137, 42, 182, 1, 141, 177]
abbrev dktX3_parseKey_0 : List UInt8 := dkwX3_parseKey_0 ++ []
theorem dksX3_parseKey_0 : cX3_parseKey.data.toList.drop 0 = dktX3_parseKey_0 := by decide +kernel
theorem dX3_parseKey_0 : decode cX3_parseKey 0 = .ok (.aload_n 0, 1) := dk_42 (dk_at dksX3_parseKey_0 0 rfl rfl)
theorem dX3_parseKey_1 : decode cX3_parseKey 1 = .ok (.aload_n 0, 1) := dk_42 (dk_at dksX3_parseKey_0 1 rfl rfl)
theorem dX3_parseKey_2 : decode cX3_parseKey 2 = .ok (.aload_n 1, 1) := dk_43 (dk_at dksX3_parseKey_0 2 rfl rfl)
theorem dX3_parseKey_3 : decode cX3_parseKey 3 = .ok (.invokevirtual 400, 3) := dk_182 1 144 (dk_at dksX3_parseKey_0 3 rfl rfl)
theorem dX3_parseKey_6 : decode cX3_parseKey 6 = .ok (.iconst 1, 1) := dk_4 (dk_at dksX3_parseKey_0 6 rfl rfl)
theorem dX3_parseKey_7 : decode cX3_parseKey 7 = .ok (.invokevirtual 393, 3) := dk_182 1 137 (dk_at dksX3_parseKey_0 7 rfl rfl)
theorem dX3_parseKey_10 : decode cX3_parseKey 10 = .ok (.aload_n 0, 1) := dk_42 (dk_at dksX3_parseKey_0 10 rfl rfl)
theorem dX3_parseKey_11 : decode cX3_parseKey 11 = .ok (.invokevirtual 397, 3) := dk_182 1 141 (dk_at dksX3_parseKey_0 11 rfl rfl)
theorem dX3_parseKey_14 : decode cX3_parseKey 14 = .ok (.return_, 1) := dk_177 (dk_at dksX3_parseKey_0 14 rfl rfl)
abbrev cX3_firstInLine : ByteArray := prog_16_method_113_code
def yX3_firstInLine : MethodName := ⟨RX3, "firstInLine", "(II)I"⟩
def dkwX3_firstInLine_1 : List UInt8 := [132, 3, 1, 167, 255, 232, 2, 172]
abbrev dktX3_firstInLine_1 : List UInt8 := dkwX3_firstInLine_1 ++ []
def dkwX3_firstInLine_0 : List UInt8 := [3, 62, 29, 42, 27, 182, 0, 119, 162, 0, 21, 42, 180, 0, 39, 29, 46, 28, 160, 0, 5, 29, 172]
abbrev dktX3_firstInLine_0 : List UInt8 := dkwX3_firstInLine_0 ++ dktX3_firstInLine_1
theorem dksX3_firstInLine_0 : cX3_firstInLine.data.toList.drop 0 = dktX3_firstInLine_0 := by decide +kernel
theorem dksX3_firstInLine_1 : cX3_firstInLine.data.toList.drop 23 = dktX3_firstInLine_1 := dk_seg dksX3_firstInLine_0 23 rfl rfl
theorem dX3_firstInLine_0 : decode cX3_firstInLine 0 = .ok (.iconst 0, 1) := dk_3 (dk_at dksX3_firstInLine_0 0 rfl rfl)
theorem dX3_firstInLine_1 : decode cX3_firstInLine 1 = .ok (.istore_n 3, 1) := dk_62 (dk_at dksX3_firstInLine_0 1 rfl rfl)
theorem dX3_firstInLine_2 : decode cX3_firstInLine 2 = .ok (.iload_n 3, 1) := dk_29 (dk_at dksX3_firstInLine_0 2 rfl rfl)
theorem dX3_firstInLine_3 : decode cX3_firstInLine 3 = .ok (.aload_n 0, 1) := dk_42 (dk_at dksX3_firstInLine_0 3 rfl rfl)
theorem dX3_firstInLine_4 : decode cX3_firstInLine 4 = .ok (.iload_n 1, 1) := dk_27 (dk_at dksX3_firstInLine_0 4 rfl rfl)
theorem dX3_firstInLine_5 : decode cX3_firstInLine 5 = .ok (.invokevirtual 119, 3) := dk_182 0 119 (dk_at dksX3_firstInLine_0 5 rfl rfl)
theorem dX3_firstInLine_8 : decode cX3_firstInLine 8 = .ok (.if_icmp .ge 21, 3) := dk_162 0 21 (dk_at dksX3_firstInLine_0 8 rfl rfl)
theorem dX3_firstInLine_11 : decode cX3_firstInLine 11 = .ok (.aload_n 0, 1) := dk_42 (dk_at dksX3_firstInLine_0 11 rfl rfl)
theorem dX3_firstInLine_12 : decode cX3_firstInLine 12 = .ok (.getfield 39, 3) := dk_180 0 39 (dk_at dksX3_firstInLine_0 12 rfl rfl)
theorem dX3_firstInLine_15 : decode cX3_firstInLine 15 = .ok (.iload_n 3, 1) := dk_29 (dk_at dksX3_firstInLine_0 15 rfl rfl)
theorem dX3_firstInLine_16 : decode cX3_firstInLine 16 = .ok (.iaload, 1) := dk_46 (dk_at dksX3_firstInLine_0 16 rfl rfl)
theorem dX3_firstInLine_17 : decode cX3_firstInLine 17 = .ok (.iload_n 2, 1) := dk_28 (dk_at dksX3_firstInLine_0 17 rfl rfl)
theorem dX3_firstInLine_18 : decode cX3_firstInLine 18 = .ok (.if_icmp .ne 5, 3) := dk_160 0 5 (dk_at dksX3_firstInLine_0 18 rfl rfl)
theorem dX3_firstInLine_21 : decode cX3_firstInLine 21 = .ok (.iload_n 3, 1) := dk_29 (dk_at dksX3_firstInLine_0 21 rfl rfl)
theorem dX3_firstInLine_22 : decode cX3_firstInLine 22 = .ok (.ireturn, 1) := dk_172 (dk_at dksX3_firstInLine_0 22 rfl rfl)
theorem dX3_firstInLine_23 : decode cX3_firstInLine 23 = .ok (.iinc 3 1, 3) := dk_132 3 1 (dk_at dksX3_firstInLine_1 0 rfl rfl)
theorem dX3_firstInLine_26 : decode cX3_firstInLine 26 = .ok (.goto (-24), 3) := dk_167 255 232 (dk_at dksX3_firstInLine_1 3 rfl rfl)
theorem dX3_firstInLine_29 : decode cX3_firstInLine 29 = .ok (.iconst (-1), 1) := dk_2 (dk_at dksX3_firstInLine_1 6 rfl rfl)
theorem dX3_firstInLine_30 : decode cX3_firstInLine 30 = .ok (.ireturn, 1) := dk_172 (dk_at dksX3_firstInLine_1 7 rfl rfl)
abbrev cX3_parseQuote : ByteArray := prog_16_method_116_code
def yX3_parseQuote : MethodName := ⟨RX3, "parseQuote", "(I)V"⟩
def dkwX3_parseQuote_8 : List UInt8 := [181, 1, 169, 42, 182, 1, 141, 177]
abbrev dktX3_parseQuote_8 : List UInt8 := dkwX3_parseQuote_8 ++ []
def dkwX3_parseQuote_7 : List UInt8 := [162, 0, 7, 4, 167, 0, 4, 3, 8, 182, 1, 137, 42, 42, 180, 1, 164, 42, 180, 0, 144, 96, 4, 100]
abbrev dktX3_parseQuote_7 : List UInt8 := dkwX3_parseQuote_7 ++ dktX3_parseQuote_8
def dkwX3_parseQuote_6 : List UInt8 := [96, 181, 1, 164, 167, 255, 215, 42, 42, 182, 1, 130, 153, 0, 15, 42, 180, 1, 164, 42, 27, 182, 0, 119]
abbrev dktX3_parseQuote_6 : List UInt8 := dkwX3_parseQuote_6 ++ dktX3_parseQuote_7
def dkwX3_parseQuote_5 : List UInt8 := [182, 0, 119, 162, 0, 28, 42, 27, 42, 180, 1, 164, 182, 1, 172, 154, 0, 16, 42, 89, 180, 1, 164, 4]
abbrev dktX3_parseQuote_5 : List UInt8 := dkwX3_parseQuote_5 ++ dktX3_parseQuote_6
def dkwX3_parseQuote_4 : List UInt8 := [61, 167, 255, 199, 42, 3, 181, 1, 164, 42, 182, 1, 130, 153, 0, 40, 42, 180, 1, 164, 42, 27]
abbrev dktX3_parseQuote_4 : List UInt8 := dkwX3_parseQuote_4 ++ dktX3_parseQuote_5
def dkwX3_parseQuote_3 : List UInt8 := [182, 1, 141, 42, 182, 1, 130, 153, 0, 16, 42, 180, 1, 120, 16, 6, 159, 0, 7, 4, 167, 0, 4, 3]
abbrev dktX3_parseQuote_3 : List UInt8 := dkwX3_parseQuote_3 ++ dktX3_parseQuote_4
def dkwX3_parseQuote_2 : List UInt8 := [180, 0, 36, 42, 180, 0, 144, 42, 180, 1, 113, 80, 42, 89, 180, 0, 144, 4, 96, 181, 0, 144, 42]
abbrev dktX3_parseQuote_2 : List UInt8 := dkwX3_parseQuote_2 ++ dktX3_parseQuote_3
def dkwX3_parseQuote_1 : List UInt8 := [182, 1, 141, 42, 3, 181, 0, 144, 42, 182, 1, 130, 61, 28, 153, 0, 59, 42, 182, 1, 151, 42]
abbrev dktX3_parseQuote_1 : List UInt8 := dkwX3_parseQuote_1 ++ dktX3_parseQuote_2
def dkwX3_parseQuote_0 : List UInt8 := [42, 182, 1, 141, 42, 42, 180, 1, 120, 16, 6, 160, 0, 7, 4, 167, 0, 4, 3, 4, 182, 1, 137, 42]
abbrev dktX3_parseQuote_0 : List UInt8 := dkwX3_parseQuote_0 ++ dktX3_parseQuote_1
theorem dksX3_parseQuote_0 : cX3_parseQuote.data.toList.drop 0 = dktX3_parseQuote_0 := by decide +kernel
theorem dksX3_parseQuote_1 : cX3_parseQuote.data.toList.drop 24 = dktX3_parseQuote_1 := dk_seg dksX3_parseQuote_0 24 rfl rfl
theorem dksX3_parseQuote_2 : cX3_parseQuote.data.toList.drop 46 = dktX3_parseQuote_2 := dk_seg dksX3_parseQuote_1 22 rfl rfl
theorem dksX3_parseQuote_3 : cX3_parseQuote.data.toList.drop 69 = dktX3_parseQuote_3 := dk_seg dksX3_parseQuote_2 23 rfl rfl
theorem dksX3_parseQuote_4 : cX3_parseQuote.data.toList.drop 93 = dktX3_parseQuote_4 := dk_seg dksX3_parseQuote_3 24 rfl rfl
theorem dksX3_parseQuote_5 : cX3_parseQuote.data.toList.drop 115 = dktX3_parseQuote_5 := dk_seg dksX3_parseQuote_4 22 rfl rfl
theorem dksX3_parseQuote_6 : cX3_parseQuote.data.toList.drop 139 = dktX3_parseQuote_6 := dk_seg dksX3_parseQuote_5 24 rfl rfl
theorem dksX3_parseQuote_7 : cX3_parseQuote.data.toList.drop 163 = dktX3_parseQuote_7 := dk_seg dksX3_parseQuote_6 24 rfl rfl
theorem dksX3_parseQuote_8 : cX3_parseQuote.data.toList.drop 187 = dktX3_parseQuote_8 := dk_seg dksX3_parseQuote_7 24 rfl rfl
theorem dX3_parseQuote_0 : decode cX3_parseQuote 0 = .ok (.aload_n 0, 1) := dk_42 (dk_at dksX3_parseQuote_0 0 rfl rfl)
theorem dX3_parseQuote_1 : decode cX3_parseQuote 1 = .ok (.invokevirtual 397, 3) := dk_182 1 141 (dk_at dksX3_parseQuote_0 1 rfl rfl)
theorem dX3_parseQuote_4 : decode cX3_parseQuote 4 = .ok (.aload_n 0, 1) := dk_42 (dk_at dksX3_parseQuote_0 4 rfl rfl)
theorem dX3_parseQuote_5 : decode cX3_parseQuote 5 = .ok (.aload_n 0, 1) := dk_42 (dk_at dksX3_parseQuote_0 5 rfl rfl)
theorem dX3_parseQuote_6 : decode cX3_parseQuote 6 = .ok (.getfield 376, 3) := dk_180 1 120 (dk_at dksX3_parseQuote_0 6 rfl rfl)
theorem dX3_parseQuote_9 : decode cX3_parseQuote 9 = .ok (.bipush 6, 2) := dk_16 6 (dk_at dksX3_parseQuote_0 9 rfl rfl)
theorem dX3_parseQuote_11 : decode cX3_parseQuote 11 = .ok (.if_icmp .ne 7, 3) := dk_160 0 7 (dk_at dksX3_parseQuote_0 11 rfl rfl)
theorem dX3_parseQuote_14 : decode cX3_parseQuote 14 = .ok (.iconst 1, 1) := dk_4 (dk_at dksX3_parseQuote_0 14 rfl rfl)
theorem dX3_parseQuote_15 : decode cX3_parseQuote 15 = .ok (.goto 4, 3) := dk_167 0 4 (dk_at dksX3_parseQuote_0 15 rfl rfl)
theorem dX3_parseQuote_18 : decode cX3_parseQuote 18 = .ok (.iconst 0, 1) := dk_3 (dk_at dksX3_parseQuote_0 18 rfl rfl)
theorem dX3_parseQuote_19 : decode cX3_parseQuote 19 = .ok (.iconst 1, 1) := dk_4 (dk_at dksX3_parseQuote_0 19 rfl rfl)
theorem dX3_parseQuote_20 : decode cX3_parseQuote 20 = .ok (.invokevirtual 393, 3) := dk_182 1 137 (dk_at dksX3_parseQuote_0 20 rfl rfl)
theorem dX3_parseQuote_23 : decode cX3_parseQuote 23 = .ok (.aload_n 0, 1) := dk_42 (dk_at dksX3_parseQuote_0 23 rfl rfl)
theorem dX3_parseQuote_24 : decode cX3_parseQuote 24 = .ok (.invokevirtual 397, 3) := dk_182 1 141 (dk_at dksX3_parseQuote_1 0 rfl rfl)
theorem dX3_parseQuote_27 : decode cX3_parseQuote 27 = .ok (.aload_n 0, 1) := dk_42 (dk_at dksX3_parseQuote_1 3 rfl rfl)
theorem dX3_parseQuote_28 : decode cX3_parseQuote 28 = .ok (.iconst 0, 1) := dk_3 (dk_at dksX3_parseQuote_1 4 rfl rfl)
theorem dX3_parseQuote_29 : decode cX3_parseQuote 29 = .ok (.putfield 144, 3) := dk_181 0 144 (dk_at dksX3_parseQuote_1 5 rfl rfl)
theorem dX3_parseQuote_32 : decode cX3_parseQuote 32 = .ok (.aload_n 0, 1) := dk_42 (dk_at dksX3_parseQuote_1 8 rfl rfl)
theorem dX3_parseQuote_33 : decode cX3_parseQuote 33 = .ok (.invokevirtual 386, 3) := dk_182 1 130 (dk_at dksX3_parseQuote_1 9 rfl rfl)
theorem dX3_parseQuote_36 : decode cX3_parseQuote 36 = .ok (.istore_n 2, 1) := dk_61 (dk_at dksX3_parseQuote_1 12 rfl rfl)
theorem dX3_parseQuote_37 : decode cX3_parseQuote 37 = .ok (.iload_n 2, 1) := dk_28 (dk_at dksX3_parseQuote_1 13 rfl rfl)
theorem dX3_parseQuote_38 : decode cX3_parseQuote 38 = .ok (.ifCond .eq 59, 3) := dk_153 0 59 (dk_at dksX3_parseQuote_1 14 rfl rfl)
theorem dX3_parseQuote_41 : decode cX3_parseQuote 41 = .ok (.aload_n 0, 1) := dk_42 (dk_at dksX3_parseQuote_1 17 rfl rfl)
theorem dX3_parseQuote_42 : decode cX3_parseQuote 42 = .ok (.invokevirtual 407, 3) := dk_182 1 151 (dk_at dksX3_parseQuote_1 18 rfl rfl)
theorem dX3_parseQuote_45 : decode cX3_parseQuote 45 = .ok (.aload_n 0, 1) := dk_42 (dk_at dksX3_parseQuote_1 21 rfl rfl)
theorem dX3_parseQuote_46 : decode cX3_parseQuote 46 = .ok (.getfield 36, 3) := dk_180 0 36 (dk_at dksX3_parseQuote_2 0 rfl rfl)
theorem dX3_parseQuote_49 : decode cX3_parseQuote 49 = .ok (.aload_n 0, 1) := dk_42 (dk_at dksX3_parseQuote_2 3 rfl rfl)
theorem dX3_parseQuote_50 : decode cX3_parseQuote 50 = .ok (.getfield 144, 3) := dk_180 0 144 (dk_at dksX3_parseQuote_2 4 rfl rfl)
theorem dX3_parseQuote_53 : decode cX3_parseQuote 53 = .ok (.aload_n 0, 1) := dk_42 (dk_at dksX3_parseQuote_2 7 rfl rfl)
theorem dX3_parseQuote_54 : decode cX3_parseQuote 54 = .ok (.getfield 369, 3) := dk_180 1 113 (dk_at dksX3_parseQuote_2 8 rfl rfl)
theorem dX3_parseQuote_57 : decode cX3_parseQuote 57 = .ok (.lastore, 1) := dk_80 (dk_at dksX3_parseQuote_2 11 rfl rfl)
theorem dX3_parseQuote_58 : decode cX3_parseQuote 58 = .ok (.aload_n 0, 1) := dk_42 (dk_at dksX3_parseQuote_2 12 rfl rfl)
theorem dX3_parseQuote_59 : decode cX3_parseQuote 59 = .ok (.dup, 1) := dk_89 (dk_at dksX3_parseQuote_2 13 rfl rfl)
theorem dX3_parseQuote_60 : decode cX3_parseQuote 60 = .ok (.getfield 144, 3) := dk_180 0 144 (dk_at dksX3_parseQuote_2 14 rfl rfl)
theorem dX3_parseQuote_63 : decode cX3_parseQuote 63 = .ok (.iconst 1, 1) := dk_4 (dk_at dksX3_parseQuote_2 17 rfl rfl)
theorem dX3_parseQuote_64 : decode cX3_parseQuote 64 = .ok (.iadd, 1) := dk_96 (dk_at dksX3_parseQuote_2 18 rfl rfl)
theorem dX3_parseQuote_65 : decode cX3_parseQuote 65 = .ok (.putfield 144, 3) := dk_181 0 144 (dk_at dksX3_parseQuote_2 19 rfl rfl)
theorem dX3_parseQuote_68 : decode cX3_parseQuote 68 = .ok (.aload_n 0, 1) := dk_42 (dk_at dksX3_parseQuote_2 22 rfl rfl)
theorem dX3_parseQuote_69 : decode cX3_parseQuote 69 = .ok (.invokevirtual 397, 3) := dk_182 1 141 (dk_at dksX3_parseQuote_3 0 rfl rfl)
theorem dX3_parseQuote_72 : decode cX3_parseQuote 72 = .ok (.aload_n 0, 1) := dk_42 (dk_at dksX3_parseQuote_3 3 rfl rfl)
theorem dX3_parseQuote_73 : decode cX3_parseQuote 73 = .ok (.invokevirtual 386, 3) := dk_182 1 130 (dk_at dksX3_parseQuote_3 4 rfl rfl)
theorem dX3_parseQuote_76 : decode cX3_parseQuote 76 = .ok (.ifCond .eq 16, 3) := dk_153 0 16 (dk_at dksX3_parseQuote_3 7 rfl rfl)
theorem dX3_parseQuote_79 : decode cX3_parseQuote 79 = .ok (.aload_n 0, 1) := dk_42 (dk_at dksX3_parseQuote_3 10 rfl rfl)
theorem dX3_parseQuote_80 : decode cX3_parseQuote 80 = .ok (.getfield 376, 3) := dk_180 1 120 (dk_at dksX3_parseQuote_3 11 rfl rfl)
theorem dX3_parseQuote_83 : decode cX3_parseQuote 83 = .ok (.bipush 6, 2) := dk_16 6 (dk_at dksX3_parseQuote_3 14 rfl rfl)
theorem dX3_parseQuote_85 : decode cX3_parseQuote 85 = .ok (.if_icmp .eq 7, 3) := dk_159 0 7 (dk_at dksX3_parseQuote_3 16 rfl rfl)
theorem dX3_parseQuote_88 : decode cX3_parseQuote 88 = .ok (.iconst 1, 1) := dk_4 (dk_at dksX3_parseQuote_3 19 rfl rfl)
theorem dX3_parseQuote_89 : decode cX3_parseQuote 89 = .ok (.goto 4, 3) := dk_167 0 4 (dk_at dksX3_parseQuote_3 20 rfl rfl)
theorem dX3_parseQuote_92 : decode cX3_parseQuote 92 = .ok (.iconst 0, 1) := dk_3 (dk_at dksX3_parseQuote_3 23 rfl rfl)
theorem dX3_parseQuote_93 : decode cX3_parseQuote 93 = .ok (.istore_n 2, 1) := dk_61 (dk_at dksX3_parseQuote_4 0 rfl rfl)
theorem dX3_parseQuote_94 : decode cX3_parseQuote 94 = .ok (.goto (-57), 3) := dk_167 255 199 (dk_at dksX3_parseQuote_4 1 rfl rfl)
theorem dX3_parseQuote_97 : decode cX3_parseQuote 97 = .ok (.aload_n 0, 1) := dk_42 (dk_at dksX3_parseQuote_4 4 rfl rfl)
theorem dX3_parseQuote_98 : decode cX3_parseQuote 98 = .ok (.iconst 0, 1) := dk_3 (dk_at dksX3_parseQuote_4 5 rfl rfl)
theorem dX3_parseQuote_99 : decode cX3_parseQuote 99 = .ok (.putfield 420, 3) := dk_181 1 164 (dk_at dksX3_parseQuote_4 6 rfl rfl)
theorem dX3_parseQuote_102 : decode cX3_parseQuote 102 = .ok (.aload_n 0, 1) := dk_42 (dk_at dksX3_parseQuote_4 9 rfl rfl)
theorem dX3_parseQuote_103 : decode cX3_parseQuote 103 = .ok (.invokevirtual 386, 3) := dk_182 1 130 (dk_at dksX3_parseQuote_4 10 rfl rfl)
theorem dX3_parseQuote_106 : decode cX3_parseQuote 106 = .ok (.ifCond .eq 40, 3) := dk_153 0 40 (dk_at dksX3_parseQuote_4 13 rfl rfl)
theorem dX3_parseQuote_109 : decode cX3_parseQuote 109 = .ok (.aload_n 0, 1) := dk_42 (dk_at dksX3_parseQuote_4 16 rfl rfl)
theorem dX3_parseQuote_110 : decode cX3_parseQuote 110 = .ok (.getfield 420, 3) := dk_180 1 164 (dk_at dksX3_parseQuote_4 17 rfl rfl)
theorem dX3_parseQuote_113 : decode cX3_parseQuote 113 = .ok (.aload_n 0, 1) := dk_42 (dk_at dksX3_parseQuote_4 20 rfl rfl)
theorem dX3_parseQuote_114 : decode cX3_parseQuote 114 = .ok (.iload_n 1, 1) := dk_27 (dk_at dksX3_parseQuote_4 21 rfl rfl)
theorem dX3_parseQuote_115 : decode cX3_parseQuote 115 = .ok (.invokevirtual 119, 3) := dk_182 0 119 (dk_at dksX3_parseQuote_5 0 rfl rfl)
theorem dX3_parseQuote_118 : decode cX3_parseQuote 118 = .ok (.if_icmp .ge 28, 3) := dk_162 0 28 (dk_at dksX3_parseQuote_5 3 rfl rfl)
theorem dX3_parseQuote_121 : decode cX3_parseQuote 121 = .ok (.aload_n 0, 1) := dk_42 (dk_at dksX3_parseQuote_5 6 rfl rfl)
theorem dX3_parseQuote_122 : decode cX3_parseQuote 122 = .ok (.iload_n 1, 1) := dk_27 (dk_at dksX3_parseQuote_5 7 rfl rfl)
theorem dX3_parseQuote_123 : decode cX3_parseQuote 123 = .ok (.aload_n 0, 1) := dk_42 (dk_at dksX3_parseQuote_5 8 rfl rfl)
theorem dX3_parseQuote_124 : decode cX3_parseQuote 124 = .ok (.getfield 420, 3) := dk_180 1 164 (dk_at dksX3_parseQuote_5 9 rfl rfl)
theorem dX3_parseQuote_127 : decode cX3_parseQuote 127 = .ok (.invokevirtual 428, 3) := dk_182 1 172 (dk_at dksX3_parseQuote_5 12 rfl rfl)
theorem dX3_parseQuote_130 : decode cX3_parseQuote 130 = .ok (.ifCond .ne 16, 3) := dk_154 0 16 (dk_at dksX3_parseQuote_5 15 rfl rfl)
theorem dX3_parseQuote_133 : decode cX3_parseQuote 133 = .ok (.aload_n 0, 1) := dk_42 (dk_at dksX3_parseQuote_5 18 rfl rfl)
theorem dX3_parseQuote_134 : decode cX3_parseQuote 134 = .ok (.dup, 1) := dk_89 (dk_at dksX3_parseQuote_5 19 rfl rfl)
theorem dX3_parseQuote_135 : decode cX3_parseQuote 135 = .ok (.getfield 420, 3) := dk_180 1 164 (dk_at dksX3_parseQuote_5 20 rfl rfl)
theorem dX3_parseQuote_138 : decode cX3_parseQuote 138 = .ok (.iconst 1, 1) := dk_4 (dk_at dksX3_parseQuote_5 23 rfl rfl)
theorem dX3_parseQuote_139 : decode cX3_parseQuote 139 = .ok (.iadd, 1) := dk_96 (dk_at dksX3_parseQuote_6 0 rfl rfl)
theorem dX3_parseQuote_140 : decode cX3_parseQuote 140 = .ok (.putfield 420, 3) := dk_181 1 164 (dk_at dksX3_parseQuote_6 1 rfl rfl)
theorem dX3_parseQuote_143 : decode cX3_parseQuote 143 = .ok (.goto (-41), 3) := dk_167 255 215 (dk_at dksX3_parseQuote_6 4 rfl rfl)
theorem dX3_parseQuote_146 : decode cX3_parseQuote 146 = .ok (.aload_n 0, 1) := dk_42 (dk_at dksX3_parseQuote_6 7 rfl rfl)
theorem dX3_parseQuote_147 : decode cX3_parseQuote 147 = .ok (.aload_n 0, 1) := dk_42 (dk_at dksX3_parseQuote_6 8 rfl rfl)
theorem dX3_parseQuote_148 : decode cX3_parseQuote 148 = .ok (.invokevirtual 386, 3) := dk_182 1 130 (dk_at dksX3_parseQuote_6 9 rfl rfl)
theorem dX3_parseQuote_151 : decode cX3_parseQuote 151 = .ok (.ifCond .eq 15, 3) := dk_153 0 15 (dk_at dksX3_parseQuote_6 12 rfl rfl)
theorem dX3_parseQuote_154 : decode cX3_parseQuote 154 = .ok (.aload_n 0, 1) := dk_42 (dk_at dksX3_parseQuote_6 15 rfl rfl)
theorem dX3_parseQuote_155 : decode cX3_parseQuote 155 = .ok (.getfield 420, 3) := dk_180 1 164 (dk_at dksX3_parseQuote_6 16 rfl rfl)
theorem dX3_parseQuote_158 : decode cX3_parseQuote 158 = .ok (.aload_n 0, 1) := dk_42 (dk_at dksX3_parseQuote_6 19 rfl rfl)
theorem dX3_parseQuote_159 : decode cX3_parseQuote 159 = .ok (.iload_n 1, 1) := dk_27 (dk_at dksX3_parseQuote_6 20 rfl rfl)
theorem dX3_parseQuote_160 : decode cX3_parseQuote 160 = .ok (.invokevirtual 119, 3) := dk_182 0 119 (dk_at dksX3_parseQuote_6 21 rfl rfl)
theorem dX3_parseQuote_163 : decode cX3_parseQuote 163 = .ok (.if_icmp .ge 7, 3) := dk_162 0 7 (dk_at dksX3_parseQuote_7 0 rfl rfl)
theorem dX3_parseQuote_166 : decode cX3_parseQuote 166 = .ok (.iconst 1, 1) := dk_4 (dk_at dksX3_parseQuote_7 3 rfl rfl)
theorem dX3_parseQuote_167 : decode cX3_parseQuote 167 = .ok (.goto 4, 3) := dk_167 0 4 (dk_at dksX3_parseQuote_7 4 rfl rfl)
theorem dX3_parseQuote_170 : decode cX3_parseQuote 170 = .ok (.iconst 0, 1) := dk_3 (dk_at dksX3_parseQuote_7 7 rfl rfl)
theorem dX3_parseQuote_171 : decode cX3_parseQuote 171 = .ok (.iconst 5, 1) := dk_8 (dk_at dksX3_parseQuote_7 8 rfl rfl)
theorem dX3_parseQuote_172 : decode cX3_parseQuote 172 = .ok (.invokevirtual 393, 3) := dk_182 1 137 (dk_at dksX3_parseQuote_7 9 rfl rfl)
theorem dX3_parseQuote_175 : decode cX3_parseQuote 175 = .ok (.aload_n 0, 1) := dk_42 (dk_at dksX3_parseQuote_7 12 rfl rfl)
theorem dX3_parseQuote_176 : decode cX3_parseQuote 176 = .ok (.aload_n 0, 1) := dk_42 (dk_at dksX3_parseQuote_7 13 rfl rfl)
theorem dX3_parseQuote_177 : decode cX3_parseQuote 177 = .ok (.getfield 420, 3) := dk_180 1 164 (dk_at dksX3_parseQuote_7 14 rfl rfl)
theorem dX3_parseQuote_180 : decode cX3_parseQuote 180 = .ok (.aload_n 0, 1) := dk_42 (dk_at dksX3_parseQuote_7 17 rfl rfl)
theorem dX3_parseQuote_181 : decode cX3_parseQuote 181 = .ok (.getfield 144, 3) := dk_180 0 144 (dk_at dksX3_parseQuote_7 18 rfl rfl)
theorem dX3_parseQuote_184 : decode cX3_parseQuote 184 = .ok (.iadd, 1) := dk_96 (dk_at dksX3_parseQuote_7 21 rfl rfl)
theorem dX3_parseQuote_185 : decode cX3_parseQuote 185 = .ok (.iconst 1, 1) := dk_4 (dk_at dksX3_parseQuote_7 22 rfl rfl)
theorem dX3_parseQuote_186 : decode cX3_parseQuote 186 = .ok (.isub, 1) := dk_100 (dk_at dksX3_parseQuote_7 23 rfl rfl)
theorem dX3_parseQuote_187 : decode cX3_parseQuote 187 = .ok (.putfield 425, 3) := dk_181 1 169 (dk_at dksX3_parseQuote_8 0 rfl rfl)
theorem dX3_parseQuote_190 : decode cX3_parseQuote 190 = .ok (.aload_n 0, 1) := dk_42 (dk_at dksX3_parseQuote_8 3 rfl rfl)
theorem dX3_parseQuote_191 : decode cX3_parseQuote 191 = .ok (.invokevirtual 397, 3) := dk_182 1 141 (dk_at dksX3_parseQuote_8 4 rfl rfl)
theorem dX3_parseQuote_194 : decode cX3_parseQuote 194 = .ok (.return_, 1) := dk_177 (dk_at dksX3_parseQuote_8 7 rfl rfl)
abbrev cX3_standsAt : ByteArray := prog_16_method_115_code
def yX3_standsAt : MethodName := ⟨RX3, "standsAt", "(II)Z"⟩
def dkwX3_standsAt_2 : List UInt8 := [180, 0, 36, 21, 4, 47, 148, 154, 0, 7, 4, 167, 0, 4, 3, 62, 132, 4, 1, 167, 255, 214, 29, 172]
abbrev dktX3_standsAt_2 : List UInt8 := dkwX3_standsAt_2 ++ []
def dkwX3_standsAt_1 : List UInt8 := [21, 4, 42, 180, 0, 144, 162, 0, 39, 29, 153, 0, 35, 42, 27, 28, 21, 4, 96, 182, 0, 181, 42]
abbrev dktX3_standsAt_1 : List UInt8 := dkwX3_standsAt_1 ++ dktX3_standsAt_2
def dkwX3_standsAt_0 : List UInt8 := [28, 42, 180, 0, 144, 96, 42, 27, 182, 0, 119, 163, 0, 7, 4, 167, 0, 4, 3, 62, 3, 54, 4]
abbrev dktX3_standsAt_0 : List UInt8 := dkwX3_standsAt_0 ++ dktX3_standsAt_1
theorem dksX3_standsAt_0 : cX3_standsAt.data.toList.drop 0 = dktX3_standsAt_0 := by decide +kernel
theorem dksX3_standsAt_1 : cX3_standsAt.data.toList.drop 23 = dktX3_standsAt_1 := dk_seg dksX3_standsAt_0 23 rfl rfl
theorem dksX3_standsAt_2 : cX3_standsAt.data.toList.drop 46 = dktX3_standsAt_2 := dk_seg dksX3_standsAt_1 23 rfl rfl
theorem dX3_standsAt_0 : decode cX3_standsAt 0 = .ok (.iload_n 2, 1) := dk_28 (dk_at dksX3_standsAt_0 0 rfl rfl)
theorem dX3_standsAt_1 : decode cX3_standsAt 1 = .ok (.aload_n 0, 1) := dk_42 (dk_at dksX3_standsAt_0 1 rfl rfl)
theorem dX3_standsAt_2 : decode cX3_standsAt 2 = .ok (.getfield 144, 3) := dk_180 0 144 (dk_at dksX3_standsAt_0 2 rfl rfl)
theorem dX3_standsAt_5 : decode cX3_standsAt 5 = .ok (.iadd, 1) := dk_96 (dk_at dksX3_standsAt_0 5 rfl rfl)
theorem dX3_standsAt_6 : decode cX3_standsAt 6 = .ok (.aload_n 0, 1) := dk_42 (dk_at dksX3_standsAt_0 6 rfl rfl)
theorem dX3_standsAt_7 : decode cX3_standsAt 7 = .ok (.iload_n 1, 1) := dk_27 (dk_at dksX3_standsAt_0 7 rfl rfl)
theorem dX3_standsAt_8 : decode cX3_standsAt 8 = .ok (.invokevirtual 119, 3) := dk_182 0 119 (dk_at dksX3_standsAt_0 8 rfl rfl)
theorem dX3_standsAt_11 : decode cX3_standsAt 11 = .ok (.if_icmp .gt 7, 3) := dk_163 0 7 (dk_at dksX3_standsAt_0 11 rfl rfl)
theorem dX3_standsAt_14 : decode cX3_standsAt 14 = .ok (.iconst 1, 1) := dk_4 (dk_at dksX3_standsAt_0 14 rfl rfl)
theorem dX3_standsAt_15 : decode cX3_standsAt 15 = .ok (.goto 4, 3) := dk_167 0 4 (dk_at dksX3_standsAt_0 15 rfl rfl)
theorem dX3_standsAt_18 : decode cX3_standsAt 18 = .ok (.iconst 0, 1) := dk_3 (dk_at dksX3_standsAt_0 18 rfl rfl)
theorem dX3_standsAt_19 : decode cX3_standsAt 19 = .ok (.istore_n 3, 1) := dk_62 (dk_at dksX3_standsAt_0 19 rfl rfl)
theorem dX3_standsAt_20 : decode cX3_standsAt 20 = .ok (.iconst 0, 1) := dk_3 (dk_at dksX3_standsAt_0 20 rfl rfl)
theorem dX3_standsAt_21 : decode cX3_standsAt 21 = .ok (.istore 4, 2) := dk_54 4 (dk_at dksX3_standsAt_0 21 rfl rfl)
theorem dX3_standsAt_23 : decode cX3_standsAt 23 = .ok (.iload 4, 2) := dk_21 4 (dk_at dksX3_standsAt_1 0 rfl rfl)
theorem dX3_standsAt_25 : decode cX3_standsAt 25 = .ok (.aload_n 0, 1) := dk_42 (dk_at dksX3_standsAt_1 2 rfl rfl)
theorem dX3_standsAt_26 : decode cX3_standsAt 26 = .ok (.getfield 144, 3) := dk_180 0 144 (dk_at dksX3_standsAt_1 3 rfl rfl)
theorem dX3_standsAt_29 : decode cX3_standsAt 29 = .ok (.if_icmp .ge 39, 3) := dk_162 0 39 (dk_at dksX3_standsAt_1 6 rfl rfl)
theorem dX3_standsAt_32 : decode cX3_standsAt 32 = .ok (.iload_n 3, 1) := dk_29 (dk_at dksX3_standsAt_1 9 rfl rfl)
theorem dX3_standsAt_33 : decode cX3_standsAt 33 = .ok (.ifCond .eq 35, 3) := dk_153 0 35 (dk_at dksX3_standsAt_1 10 rfl rfl)
theorem dX3_standsAt_36 : decode cX3_standsAt 36 = .ok (.aload_n 0, 1) := dk_42 (dk_at dksX3_standsAt_1 13 rfl rfl)
theorem dX3_standsAt_37 : decode cX3_standsAt 37 = .ok (.iload_n 1, 1) := dk_27 (dk_at dksX3_standsAt_1 14 rfl rfl)
theorem dX3_standsAt_38 : decode cX3_standsAt 38 = .ok (.iload_n 2, 1) := dk_28 (dk_at dksX3_standsAt_1 15 rfl rfl)
theorem dX3_standsAt_39 : decode cX3_standsAt 39 = .ok (.iload 4, 2) := dk_21 4 (dk_at dksX3_standsAt_1 16 rfl rfl)
theorem dX3_standsAt_41 : decode cX3_standsAt 41 = .ok (.iadd, 1) := dk_96 (dk_at dksX3_standsAt_1 18 rfl rfl)
theorem dX3_standsAt_42 : decode cX3_standsAt 42 = .ok (.invokevirtual 181, 3) := dk_182 0 181 (dk_at dksX3_standsAt_1 19 rfl rfl)
theorem dX3_standsAt_45 : decode cX3_standsAt 45 = .ok (.aload_n 0, 1) := dk_42 (dk_at dksX3_standsAt_1 22 rfl rfl)
theorem dX3_standsAt_46 : decode cX3_standsAt 46 = .ok (.getfield 36, 3) := dk_180 0 36 (dk_at dksX3_standsAt_2 0 rfl rfl)
theorem dX3_standsAt_49 : decode cX3_standsAt 49 = .ok (.iload 4, 2) := dk_21 4 (dk_at dksX3_standsAt_2 3 rfl rfl)
theorem dX3_standsAt_51 : decode cX3_standsAt 51 = .ok (.laload, 1) := dk_47 (dk_at dksX3_standsAt_2 5 rfl rfl)
theorem dX3_standsAt_52 : decode cX3_standsAt 52 = .ok (.lcmp, 1) := dk_148 (dk_at dksX3_standsAt_2 6 rfl rfl)
theorem dX3_standsAt_53 : decode cX3_standsAt 53 = .ok (.ifCond .ne 7, 3) := dk_154 0 7 (dk_at dksX3_standsAt_2 7 rfl rfl)
theorem dX3_standsAt_56 : decode cX3_standsAt 56 = .ok (.iconst 1, 1) := dk_4 (dk_at dksX3_standsAt_2 10 rfl rfl)
theorem dX3_standsAt_57 : decode cX3_standsAt 57 = .ok (.goto 4, 3) := dk_167 0 4 (dk_at dksX3_standsAt_2 11 rfl rfl)
theorem dX3_standsAt_60 : decode cX3_standsAt 60 = .ok (.iconst 0, 1) := dk_3 (dk_at dksX3_standsAt_2 14 rfl rfl)
theorem dX3_standsAt_61 : decode cX3_standsAt 61 = .ok (.istore_n 3, 1) := dk_62 (dk_at dksX3_standsAt_2 15 rfl rfl)
theorem dX3_standsAt_62 : decode cX3_standsAt 62 = .ok (.iinc 4 1, 3) := dk_132 4 1 (dk_at dksX3_standsAt_2 16 rfl rfl)
theorem dX3_standsAt_65 : decode cX3_standsAt 65 = .ok (.goto (-42), 3) := dk_167 255 214 (dk_at dksX3_standsAt_2 19 rfl rfl)
theorem dX3_standsAt_68 : decode cX3_standsAt 68 = .ok (.iload_n 3, 1) := dk_29 (dk_at dksX3_standsAt_2 22 rfl rfl)
theorem dX3_standsAt_69 : decode cX3_standsAt 69 = .ok (.ireturn, 1) := dk_172 (dk_at dksX3_standsAt_2 23 rfl rfl)
abbrev cX3_parseSaid : ByteArray := prog_16_method_117_code
def yX3_parseSaid : MethodName := ⟨RX3, "parseSaid", "(I)V"⟩
def dkwX3_parseSaid_3 : List UInt8 := [153, 0, 15, 42, 180, 1, 120, 5, 160, 0, 7, 4, 167, 0, 4, 3, 61, 167, 255, 179, 177]
abbrev dktX3_parseSaid_3 : List UInt8 := dkwX3_parseSaid_3 ++ []
def dkwX3_parseSaid_2 : List UInt8 := [182, 1, 130, 153, 0, 12, 42, 27, 42, 180, 1, 113, 182, 0, 236, 42, 182, 1, 141, 42, 182, 1, 130]
abbrev dktX3_parseSaid_2 : List UInt8 := dkwX3_parseSaid_2 ++ dktX3_parseSaid_3
def dkwX3_parseSaid_1 : List UInt8 := [153, 0, 14, 42, 27, 8, 182, 0, 205, 16, 6, 162, 0, 7, 4, 167, 0, 4, 3, 7, 182, 1, 137, 42]
abbrev dktX3_parseSaid_1 : List UInt8 := dkwX3_parseSaid_1 ++ dktX3_parseSaid_2
def dkwX3_parseSaid_0 : List UInt8 := [42, 182, 1, 141, 42, 182, 1, 130, 61, 28, 153, 0, 79, 42, 182, 1, 151, 42, 42, 182, 1, 130]
abbrev dktX3_parseSaid_0 : List UInt8 := dkwX3_parseSaid_0 ++ dktX3_parseSaid_1
theorem dksX3_parseSaid_0 : cX3_parseSaid.data.toList.drop 0 = dktX3_parseSaid_0 := by decide +kernel
theorem dksX3_parseSaid_1 : cX3_parseSaid.data.toList.drop 22 = dktX3_parseSaid_1 := dk_seg dksX3_parseSaid_0 22 rfl rfl
theorem dksX3_parseSaid_2 : cX3_parseSaid.data.toList.drop 46 = dktX3_parseSaid_2 := dk_seg dksX3_parseSaid_1 24 rfl rfl
theorem dksX3_parseSaid_3 : cX3_parseSaid.data.toList.drop 69 = dktX3_parseSaid_3 := dk_seg dksX3_parseSaid_2 23 rfl rfl
theorem dX3_parseSaid_0 : decode cX3_parseSaid 0 = .ok (.aload_n 0, 1) := dk_42 (dk_at dksX3_parseSaid_0 0 rfl rfl)
theorem dX3_parseSaid_1 : decode cX3_parseSaid 1 = .ok (.invokevirtual 397, 3) := dk_182 1 141 (dk_at dksX3_parseSaid_0 1 rfl rfl)
theorem dX3_parseSaid_4 : decode cX3_parseSaid 4 = .ok (.aload_n 0, 1) := dk_42 (dk_at dksX3_parseSaid_0 4 rfl rfl)
theorem dX3_parseSaid_5 : decode cX3_parseSaid 5 = .ok (.invokevirtual 386, 3) := dk_182 1 130 (dk_at dksX3_parseSaid_0 5 rfl rfl)
theorem dX3_parseSaid_8 : decode cX3_parseSaid 8 = .ok (.istore_n 2, 1) := dk_61 (dk_at dksX3_parseSaid_0 8 rfl rfl)
theorem dX3_parseSaid_9 : decode cX3_parseSaid 9 = .ok (.iload_n 2, 1) := dk_28 (dk_at dksX3_parseSaid_0 9 rfl rfl)
theorem dX3_parseSaid_10 : decode cX3_parseSaid 10 = .ok (.ifCond .eq 79, 3) := dk_153 0 79 (dk_at dksX3_parseSaid_0 10 rfl rfl)
theorem dX3_parseSaid_13 : decode cX3_parseSaid 13 = .ok (.aload_n 0, 1) := dk_42 (dk_at dksX3_parseSaid_0 13 rfl rfl)
theorem dX3_parseSaid_14 : decode cX3_parseSaid 14 = .ok (.invokevirtual 407, 3) := dk_182 1 151 (dk_at dksX3_parseSaid_0 14 rfl rfl)
theorem dX3_parseSaid_17 : decode cX3_parseSaid 17 = .ok (.aload_n 0, 1) := dk_42 (dk_at dksX3_parseSaid_0 17 rfl rfl)
theorem dX3_parseSaid_18 : decode cX3_parseSaid 18 = .ok (.aload_n 0, 1) := dk_42 (dk_at dksX3_parseSaid_0 18 rfl rfl)
theorem dX3_parseSaid_19 : decode cX3_parseSaid 19 = .ok (.invokevirtual 386, 3) := dk_182 1 130 (dk_at dksX3_parseSaid_0 19 rfl rfl)
theorem dX3_parseSaid_22 : decode cX3_parseSaid 22 = .ok (.ifCond .eq 14, 3) := dk_153 0 14 (dk_at dksX3_parseSaid_1 0 rfl rfl)
theorem dX3_parseSaid_25 : decode cX3_parseSaid 25 = .ok (.aload_n 0, 1) := dk_42 (dk_at dksX3_parseSaid_1 3 rfl rfl)
theorem dX3_parseSaid_26 : decode cX3_parseSaid 26 = .ok (.iload_n 1, 1) := dk_27 (dk_at dksX3_parseSaid_1 4 rfl rfl)
theorem dX3_parseSaid_27 : decode cX3_parseSaid 27 = .ok (.iconst 5, 1) := dk_8 (dk_at dksX3_parseSaid_1 5 rfl rfl)
theorem dX3_parseSaid_28 : decode cX3_parseSaid 28 = .ok (.invokevirtual 205, 3) := dk_182 0 205 (dk_at dksX3_parseSaid_1 6 rfl rfl)
theorem dX3_parseSaid_31 : decode cX3_parseSaid 31 = .ok (.bipush 6, 2) := dk_16 6 (dk_at dksX3_parseSaid_1 9 rfl rfl)
theorem dX3_parseSaid_33 : decode cX3_parseSaid 33 = .ok (.if_icmp .ge 7, 3) := dk_162 0 7 (dk_at dksX3_parseSaid_1 11 rfl rfl)
theorem dX3_parseSaid_36 : decode cX3_parseSaid 36 = .ok (.iconst 1, 1) := dk_4 (dk_at dksX3_parseSaid_1 14 rfl rfl)
theorem dX3_parseSaid_37 : decode cX3_parseSaid 37 = .ok (.goto 4, 3) := dk_167 0 4 (dk_at dksX3_parseSaid_1 15 rfl rfl)
theorem dX3_parseSaid_40 : decode cX3_parseSaid 40 = .ok (.iconst 0, 1) := dk_3 (dk_at dksX3_parseSaid_1 18 rfl rfl)
theorem dX3_parseSaid_41 : decode cX3_parseSaid 41 = .ok (.iconst 4, 1) := dk_7 (dk_at dksX3_parseSaid_1 19 rfl rfl)
theorem dX3_parseSaid_42 : decode cX3_parseSaid 42 = .ok (.invokevirtual 393, 3) := dk_182 1 137 (dk_at dksX3_parseSaid_1 20 rfl rfl)
theorem dX3_parseSaid_45 : decode cX3_parseSaid 45 = .ok (.aload_n 0, 1) := dk_42 (dk_at dksX3_parseSaid_1 23 rfl rfl)
theorem dX3_parseSaid_46 : decode cX3_parseSaid 46 = .ok (.invokevirtual 386, 3) := dk_182 1 130 (dk_at dksX3_parseSaid_2 0 rfl rfl)
theorem dX3_parseSaid_49 : decode cX3_parseSaid 49 = .ok (.ifCond .eq 12, 3) := dk_153 0 12 (dk_at dksX3_parseSaid_2 3 rfl rfl)
theorem dX3_parseSaid_52 : decode cX3_parseSaid 52 = .ok (.aload_n 0, 1) := dk_42 (dk_at dksX3_parseSaid_2 6 rfl rfl)
theorem dX3_parseSaid_53 : decode cX3_parseSaid 53 = .ok (.iload_n 1, 1) := dk_27 (dk_at dksX3_parseSaid_2 7 rfl rfl)
theorem dX3_parseSaid_54 : decode cX3_parseSaid 54 = .ok (.aload_n 0, 1) := dk_42 (dk_at dksX3_parseSaid_2 8 rfl rfl)
theorem dX3_parseSaid_55 : decode cX3_parseSaid 55 = .ok (.getfield 369, 3) := dk_180 1 113 (dk_at dksX3_parseSaid_2 9 rfl rfl)
theorem dX3_parseSaid_58 : decode cX3_parseSaid 58 = .ok (.invokevirtual 236, 3) := dk_182 0 236 (dk_at dksX3_parseSaid_2 12 rfl rfl)
theorem dX3_parseSaid_61 : decode cX3_parseSaid 61 = .ok (.aload_n 0, 1) := dk_42 (dk_at dksX3_parseSaid_2 15 rfl rfl)
theorem dX3_parseSaid_62 : decode cX3_parseSaid 62 = .ok (.invokevirtual 397, 3) := dk_182 1 141 (dk_at dksX3_parseSaid_2 16 rfl rfl)
theorem dX3_parseSaid_65 : decode cX3_parseSaid 65 = .ok (.aload_n 0, 1) := dk_42 (dk_at dksX3_parseSaid_2 19 rfl rfl)
theorem dX3_parseSaid_66 : decode cX3_parseSaid 66 = .ok (.invokevirtual 386, 3) := dk_182 1 130 (dk_at dksX3_parseSaid_2 20 rfl rfl)
theorem dX3_parseSaid_69 : decode cX3_parseSaid 69 = .ok (.ifCond .eq 15, 3) := dk_153 0 15 (dk_at dksX3_parseSaid_3 0 rfl rfl)
theorem dX3_parseSaid_72 : decode cX3_parseSaid 72 = .ok (.aload_n 0, 1) := dk_42 (dk_at dksX3_parseSaid_3 3 rfl rfl)
theorem dX3_parseSaid_73 : decode cX3_parseSaid 73 = .ok (.getfield 376, 3) := dk_180 1 120 (dk_at dksX3_parseSaid_3 4 rfl rfl)
theorem dX3_parseSaid_76 : decode cX3_parseSaid 76 = .ok (.iconst 2, 1) := dk_5 (dk_at dksX3_parseSaid_3 7 rfl rfl)
theorem dX3_parseSaid_77 : decode cX3_parseSaid 77 = .ok (.if_icmp .ne 7, 3) := dk_160 0 7 (dk_at dksX3_parseSaid_3 8 rfl rfl)
theorem dX3_parseSaid_80 : decode cX3_parseSaid 80 = .ok (.iconst 1, 1) := dk_4 (dk_at dksX3_parseSaid_3 11 rfl rfl)
theorem dX3_parseSaid_81 : decode cX3_parseSaid 81 = .ok (.goto 4, 3) := dk_167 0 4 (dk_at dksX3_parseSaid_3 12 rfl rfl)
theorem dX3_parseSaid_84 : decode cX3_parseSaid 84 = .ok (.iconst 0, 1) := dk_3 (dk_at dksX3_parseSaid_3 15 rfl rfl)
theorem dX3_parseSaid_85 : decode cX3_parseSaid 85 = .ok (.istore_n 2, 1) := dk_61 (dk_at dksX3_parseSaid_3 16 rfl rfl)
theorem dX3_parseSaid_86 : decode cX3_parseSaid 86 = .ok (.goto (-77), 3) := dk_167 255 179 (dk_at dksX3_parseSaid_3 17 rfl rfl)
theorem dX3_parseSaid_89 : decode cX3_parseSaid 89 = .ok (.return_, 1) := dk_177 (dk_at dksX3_parseSaid_3 20 rfl rfl)
abbrev cX3_errorCode : ByteArray := prog_16_method_121_code
def yX3_errorCode : MethodName := ⟨RX3, "errorCode", "()I"⟩
def dkwX3_errorCode_0 : List UInt8 := [42, 3, 181, 0, 100, 42, 180, 1, 127, 172]
abbrev dktX3_errorCode_0 : List UInt8 := dkwX3_errorCode_0 ++ []
theorem dksX3_errorCode_0 : cX3_errorCode.data.toList.drop 0 = dktX3_errorCode_0 := by decide +kernel
theorem dX3_errorCode_0 : decode cX3_errorCode 0 = .ok (.aload_n 0, 1) := dk_42 (dk_at dksX3_errorCode_0 0 rfl rfl)
theorem dX3_errorCode_1 : decode cX3_errorCode 1 = .ok (.iconst 0, 1) := dk_3 (dk_at dksX3_errorCode_0 1 rfl rfl)
theorem dX3_errorCode_2 : decode cX3_errorCode 2 = .ok (.putfield 100, 3) := dk_181 0 100 (dk_at dksX3_errorCode_0 2 rfl rfl)
theorem dX3_errorCode_5 : decode cX3_errorCode 5 = .ok (.aload_n 0, 1) := dk_42 (dk_at dksX3_errorCode_0 5 rfl rfl)
theorem dX3_errorCode_6 : decode cX3_errorCode 6 = .ok (.getfield 383, 3) := dk_180 1 127 (dk_at dksX3_errorCode_0 6 rfl rfl)
theorem dX3_errorCode_9 : decode cX3_errorCode 9 = .ok (.ireturn, 1) := dk_172 (dk_at dksX3_errorCode_0 9 rfl rfl)
abbrev cX3_errorPosition : ByteArray := prog_16_method_122_code
def yX3_errorPosition : MethodName := ⟨RX3, "errorPosition", "()I"⟩
def dkwX3_errorPosition_0 : List UInt8 := [42, 3, 181, 0, 100, 42, 180, 0, 96, 172]
abbrev dktX3_errorPosition_0 : List UInt8 := dkwX3_errorPosition_0 ++ []
theorem dksX3_errorPosition_0 : cX3_errorPosition.data.toList.drop 0 = dktX3_errorPosition_0 := by decide +kernel
theorem dX3_errorPosition_0 : decode cX3_errorPosition 0 = .ok (.aload_n 0, 1) := dk_42 (dk_at dksX3_errorPosition_0 0 rfl rfl)
theorem dX3_errorPosition_1 : decode cX3_errorPosition 1 = .ok (.iconst 0, 1) := dk_3 (dk_at dksX3_errorPosition_0 1 rfl rfl)
theorem dX3_errorPosition_2 : decode cX3_errorPosition 2 = .ok (.putfield 100, 3) := dk_181 0 100 (dk_at dksX3_errorPosition_0 2 rfl rfl)
theorem dX3_errorPosition_5 : decode cX3_errorPosition 5 = .ok (.aload_n 0, 1) := dk_42 (dk_at dksX3_errorPosition_0 5 rfl rfl)
theorem dX3_errorPosition_6 : decode cX3_errorPosition 6 = .ok (.getfield 96, 3) := dk_180 0 96 (dk_at dksX3_errorPosition_0 6 rfl rfl)
theorem dX3_errorPosition_9 : decode cX3_errorPosition 9 = .ok (.ireturn, 1) := dk_172 (dk_at dksX3_errorPosition_0 9 rfl rfl)
abbrev cX3_save : ByteArray := prog_16_method_123_code
def yX3_save : MethodName := ⟨RX3, "save", "(I)V"⟩
def dkwX3_save_2 : List UInt8 := [3, 42, 180, 0, 26, 17, 2, 94, 27, 104, 184, 1, 212, 42, 180, 0, 29, 27, 4, 84, 177]
abbrev dktX3_save_2 : List UInt8 := dkwX3_save_2 ++ []
def dkwX3_save_1 : List UInt8 := [154, 0, 44, 42, 180, 0, 7, 3, 42, 180, 0, 16, 17, 2, 102, 27, 104, 184, 1, 208, 42, 180, 0, 19]
abbrev dktX3_save_1 : List UInt8 := dkwX3_save_1 ++ dktX3_save_2
def dkwX3_save_0 : List UInt8 := [42, 27, 3, 4, 184, 0, 111, 153, 0, 7, 3, 167, 0, 4, 4, 181, 0, 100, 42, 180, 0, 100]
abbrev dktX3_save_0 : List UInt8 := dkwX3_save_0 ++ dktX3_save_1
theorem dksX3_save_0 : cX3_save.data.toList.drop 0 = dktX3_save_0 := by decide +kernel
theorem dksX3_save_1 : cX3_save.data.toList.drop 22 = dktX3_save_1 := dk_seg dksX3_save_0 22 rfl rfl
theorem dksX3_save_2 : cX3_save.data.toList.drop 46 = dktX3_save_2 := dk_seg dksX3_save_1 24 rfl rfl
theorem dX3_save_0 : decode cX3_save 0 = .ok (.aload_n 0, 1) := dk_42 (dk_at dksX3_save_0 0 rfl rfl)
theorem dX3_save_1 : decode cX3_save 1 = .ok (.iload_n 1, 1) := dk_27 (dk_at dksX3_save_0 1 rfl rfl)
theorem dX3_save_2 : decode cX3_save 2 = .ok (.iconst 0, 1) := dk_3 (dk_at dksX3_save_0 2 rfl rfl)
theorem dX3_save_3 : decode cX3_save 3 = .ok (.iconst 1, 1) := dk_4 (dk_at dksX3_save_0 3 rfl rfl)
theorem dX3_save_4 : decode cX3_save 4 = .ok (.invokestatic 111, 3) := dk_184 0 111 (dk_at dksX3_save_0 4 rfl rfl)
theorem dX3_save_7 : decode cX3_save 7 = .ok (.ifCond .eq 7, 3) := dk_153 0 7 (dk_at dksX3_save_0 7 rfl rfl)
theorem dX3_save_10 : decode cX3_save 10 = .ok (.iconst 0, 1) := dk_3 (dk_at dksX3_save_0 10 rfl rfl)
theorem dX3_save_11 : decode cX3_save 11 = .ok (.goto 4, 3) := dk_167 0 4 (dk_at dksX3_save_0 11 rfl rfl)
theorem dX3_save_14 : decode cX3_save 14 = .ok (.iconst 1, 1) := dk_4 (dk_at dksX3_save_0 14 rfl rfl)
theorem dX3_save_15 : decode cX3_save 15 = .ok (.putfield 100, 3) := dk_181 0 100 (dk_at dksX3_save_0 15 rfl rfl)
theorem dX3_save_18 : decode cX3_save 18 = .ok (.aload_n 0, 1) := dk_42 (dk_at dksX3_save_0 18 rfl rfl)
theorem dX3_save_19 : decode cX3_save 19 = .ok (.getfield 100, 3) := dk_180 0 100 (dk_at dksX3_save_0 19 rfl rfl)
theorem dX3_save_22 : decode cX3_save 22 = .ok (.ifCond .ne 44, 3) := dk_154 0 44 (dk_at dksX3_save_1 0 rfl rfl)
theorem dX3_save_25 : decode cX3_save 25 = .ok (.aload_n 0, 1) := dk_42 (dk_at dksX3_save_1 3 rfl rfl)
theorem dX3_save_26 : decode cX3_save 26 = .ok (.getfield 7, 3) := dk_180 0 7 (dk_at dksX3_save_1 4 rfl rfl)
theorem dX3_save_29 : decode cX3_save 29 = .ok (.iconst 0, 1) := dk_3 (dk_at dksX3_save_1 7 rfl rfl)
theorem dX3_save_30 : decode cX3_save 30 = .ok (.aload_n 0, 1) := dk_42 (dk_at dksX3_save_1 8 rfl rfl)
theorem dX3_save_31 : decode cX3_save 31 = .ok (.getfield 16, 3) := dk_180 0 16 (dk_at dksX3_save_1 9 rfl rfl)
theorem dX3_save_34 : decode cX3_save 34 = .ok (.sipush 614, 3) := dk_17 2 102 (dk_at dksX3_save_1 12 rfl rfl)
theorem dX3_save_37 : decode cX3_save 37 = .ok (.iload_n 1, 1) := dk_27 (dk_at dksX3_save_1 15 rfl rfl)
theorem dX3_save_38 : decode cX3_save 38 = .ok (.imul, 1) := dk_104 (dk_at dksX3_save_1 16 rfl rfl)
theorem dX3_save_39 : decode cX3_save 39 = .ok (.invokestatic 464, 3) := dk_184 1 208 (dk_at dksX3_save_1 17 rfl rfl)
theorem dX3_save_42 : decode cX3_save 42 = .ok (.aload_n 0, 1) := dk_42 (dk_at dksX3_save_1 20 rfl rfl)
theorem dX3_save_43 : decode cX3_save 43 = .ok (.getfield 19, 3) := dk_180 0 19 (dk_at dksX3_save_1 21 rfl rfl)
theorem dX3_save_46 : decode cX3_save 46 = .ok (.iconst 0, 1) := dk_3 (dk_at dksX3_save_2 0 rfl rfl)
theorem dX3_save_47 : decode cX3_save 47 = .ok (.aload_n 0, 1) := dk_42 (dk_at dksX3_save_2 1 rfl rfl)
theorem dX3_save_48 : decode cX3_save 48 = .ok (.getfield 26, 3) := dk_180 0 26 (dk_at dksX3_save_2 2 rfl rfl)
theorem dX3_save_51 : decode cX3_save 51 = .ok (.sipush 606, 3) := dk_17 2 94 (dk_at dksX3_save_2 5 rfl rfl)
theorem dX3_save_54 : decode cX3_save 54 = .ok (.iload_n 1, 1) := dk_27 (dk_at dksX3_save_2 8 rfl rfl)
theorem dX3_save_55 : decode cX3_save 55 = .ok (.imul, 1) := dk_104 (dk_at dksX3_save_2 9 rfl rfl)
theorem dX3_save_56 : decode cX3_save 56 = .ok (.invokestatic 468, 3) := dk_184 1 212 (dk_at dksX3_save_2 10 rfl rfl)
theorem dX3_save_59 : decode cX3_save 59 = .ok (.aload_n 0, 1) := dk_42 (dk_at dksX3_save_2 13 rfl rfl)
theorem dX3_save_60 : decode cX3_save 60 = .ok (.getfield 29, 3) := dk_180 0 29 (dk_at dksX3_save_2 14 rfl rfl)
theorem dX3_save_63 : decode cX3_save 63 = .ok (.iload_n 1, 1) := dk_27 (dk_at dksX3_save_2 17 rfl rfl)
theorem dX3_save_64 : decode cX3_save 64 = .ok (.iconst 1, 1) := dk_4 (dk_at dksX3_save_2 18 rfl rfl)
theorem dX3_save_65 : decode cX3_save 65 = .ok (.bastore, 1) := dk_84 (dk_at dksX3_save_2 19 rfl rfl)
theorem dX3_save_66 : decode cX3_save 66 = .ok (.return_, 1) := dk_177 (dk_at dksX3_save_2 20 rfl rfl)
abbrev cX3_restore : ByteArray := prog_16_method_124_code
def yX3_restore : MethodName := ⟨RX3, "restore", "(I)V"⟩
def dkwX3_restore_3 : List UInt8 := [177]
abbrev dktX3_restore_3 : List UInt8 := dkwX3_restore_3 ++ []
def dkwX3_restore_2 : List UInt8 := [180, 0, 7, 3, 184, 1, 208, 42, 180, 0, 26, 17, 2, 94, 27, 104, 42, 180, 0, 19, 3, 184, 1, 212]
abbrev dktX3_restore_2 : List UInt8 := dkwX3_restore_2 ++ dktX3_restore_3
def dkwX3_restore_1 : List UInt8 := [167, 0, 4, 3, 181, 0, 100, 42, 180, 0, 100, 154, 0, 37, 42, 180, 0, 16, 17, 2, 102, 27, 104, 42]
abbrev dktX3_restore_1 : List UInt8 := dkwX3_restore_1 ++ dktX3_restore_2
def dkwX3_restore_0 : List UInt8 := [42, 27, 3, 4, 184, 0, 111, 154, 0, 7, 4, 167, 0, 17, 42, 180, 0, 29, 27, 51, 154, 0, 7, 5]
abbrev dktX3_restore_0 : List UInt8 := dkwX3_restore_0 ++ dktX3_restore_1
theorem dksX3_restore_0 : cX3_restore.data.toList.drop 0 = dktX3_restore_0 := by decide +kernel
theorem dksX3_restore_1 : cX3_restore.data.toList.drop 24 = dktX3_restore_1 := dk_seg dksX3_restore_0 24 rfl rfl
theorem dksX3_restore_2 : cX3_restore.data.toList.drop 48 = dktX3_restore_2 := dk_seg dksX3_restore_1 24 rfl rfl
theorem dksX3_restore_3 : cX3_restore.data.toList.drop 72 = dktX3_restore_3 := dk_seg dksX3_restore_2 24 rfl rfl
theorem dX3_restore_0 : decode cX3_restore 0 = .ok (.aload_n 0, 1) := dk_42 (dk_at dksX3_restore_0 0 rfl rfl)
theorem dX3_restore_1 : decode cX3_restore 1 = .ok (.iload_n 1, 1) := dk_27 (dk_at dksX3_restore_0 1 rfl rfl)
theorem dX3_restore_2 : decode cX3_restore 2 = .ok (.iconst 0, 1) := dk_3 (dk_at dksX3_restore_0 2 rfl rfl)
theorem dX3_restore_3 : decode cX3_restore 3 = .ok (.iconst 1, 1) := dk_4 (dk_at dksX3_restore_0 3 rfl rfl)
theorem dX3_restore_4 : decode cX3_restore 4 = .ok (.invokestatic 111, 3) := dk_184 0 111 (dk_at dksX3_restore_0 4 rfl rfl)
theorem dX3_restore_7 : decode cX3_restore 7 = .ok (.ifCond .ne 7, 3) := dk_154 0 7 (dk_at dksX3_restore_0 7 rfl rfl)
theorem dX3_restore_10 : decode cX3_restore 10 = .ok (.iconst 1, 1) := dk_4 (dk_at dksX3_restore_0 10 rfl rfl)
theorem dX3_restore_11 : decode cX3_restore 11 = .ok (.goto 17, 3) := dk_167 0 17 (dk_at dksX3_restore_0 11 rfl rfl)
theorem dX3_restore_14 : decode cX3_restore 14 = .ok (.aload_n 0, 1) := dk_42 (dk_at dksX3_restore_0 14 rfl rfl)
theorem dX3_restore_15 : decode cX3_restore 15 = .ok (.getfield 29, 3) := dk_180 0 29 (dk_at dksX3_restore_0 15 rfl rfl)
theorem dX3_restore_18 : decode cX3_restore 18 = .ok (.iload_n 1, 1) := dk_27 (dk_at dksX3_restore_0 18 rfl rfl)
theorem dX3_restore_19 : decode cX3_restore 19 = .ok (.baload, 1) := dk_51 (dk_at dksX3_restore_0 19 rfl rfl)
theorem dX3_restore_20 : decode cX3_restore 20 = .ok (.ifCond .ne 7, 3) := dk_154 0 7 (dk_at dksX3_restore_0 20 rfl rfl)
theorem dX3_restore_23 : decode cX3_restore 23 = .ok (.iconst 2, 1) := dk_5 (dk_at dksX3_restore_0 23 rfl rfl)
theorem dX3_restore_24 : decode cX3_restore 24 = .ok (.goto 4, 3) := dk_167 0 4 (dk_at dksX3_restore_1 0 rfl rfl)
theorem dX3_restore_27 : decode cX3_restore 27 = .ok (.iconst 0, 1) := dk_3 (dk_at dksX3_restore_1 3 rfl rfl)
theorem dX3_restore_28 : decode cX3_restore 28 = .ok (.putfield 100, 3) := dk_181 0 100 (dk_at dksX3_restore_1 4 rfl rfl)
theorem dX3_restore_31 : decode cX3_restore 31 = .ok (.aload_n 0, 1) := dk_42 (dk_at dksX3_restore_1 7 rfl rfl)
theorem dX3_restore_32 : decode cX3_restore 32 = .ok (.getfield 100, 3) := dk_180 0 100 (dk_at dksX3_restore_1 8 rfl rfl)
theorem dX3_restore_35 : decode cX3_restore 35 = .ok (.ifCond .ne 37, 3) := dk_154 0 37 (dk_at dksX3_restore_1 11 rfl rfl)
theorem dX3_restore_38 : decode cX3_restore 38 = .ok (.aload_n 0, 1) := dk_42 (dk_at dksX3_restore_1 14 rfl rfl)
theorem dX3_restore_39 : decode cX3_restore 39 = .ok (.getfield 16, 3) := dk_180 0 16 (dk_at dksX3_restore_1 15 rfl rfl)
theorem dX3_restore_42 : decode cX3_restore 42 = .ok (.sipush 614, 3) := dk_17 2 102 (dk_at dksX3_restore_1 18 rfl rfl)
theorem dX3_restore_45 : decode cX3_restore 45 = .ok (.iload_n 1, 1) := dk_27 (dk_at dksX3_restore_1 21 rfl rfl)
theorem dX3_restore_46 : decode cX3_restore 46 = .ok (.imul, 1) := dk_104 (dk_at dksX3_restore_1 22 rfl rfl)
theorem dX3_restore_47 : decode cX3_restore 47 = .ok (.aload_n 0, 1) := dk_42 (dk_at dksX3_restore_1 23 rfl rfl)
theorem dX3_restore_48 : decode cX3_restore 48 = .ok (.getfield 7, 3) := dk_180 0 7 (dk_at dksX3_restore_2 0 rfl rfl)
theorem dX3_restore_51 : decode cX3_restore 51 = .ok (.iconst 0, 1) := dk_3 (dk_at dksX3_restore_2 3 rfl rfl)
theorem dX3_restore_52 : decode cX3_restore 52 = .ok (.invokestatic 464, 3) := dk_184 1 208 (dk_at dksX3_restore_2 4 rfl rfl)
theorem dX3_restore_55 : decode cX3_restore 55 = .ok (.aload_n 0, 1) := dk_42 (dk_at dksX3_restore_2 7 rfl rfl)
theorem dX3_restore_56 : decode cX3_restore 56 = .ok (.getfield 26, 3) := dk_180 0 26 (dk_at dksX3_restore_2 8 rfl rfl)
theorem dX3_restore_59 : decode cX3_restore 59 = .ok (.sipush 606, 3) := dk_17 2 94 (dk_at dksX3_restore_2 11 rfl rfl)
theorem dX3_restore_62 : decode cX3_restore 62 = .ok (.iload_n 1, 1) := dk_27 (dk_at dksX3_restore_2 14 rfl rfl)
theorem dX3_restore_63 : decode cX3_restore 63 = .ok (.imul, 1) := dk_104 (dk_at dksX3_restore_2 15 rfl rfl)
theorem dX3_restore_64 : decode cX3_restore 64 = .ok (.aload_n 0, 1) := dk_42 (dk_at dksX3_restore_2 16 rfl rfl)
theorem dX3_restore_65 : decode cX3_restore 65 = .ok (.getfield 19, 3) := dk_180 0 19 (dk_at dksX3_restore_2 17 rfl rfl)
theorem dX3_restore_68 : decode cX3_restore 68 = .ok (.iconst 0, 1) := dk_3 (dk_at dksX3_restore_2 20 rfl rfl)
theorem dX3_restore_69 : decode cX3_restore 69 = .ok (.invokestatic 468, 3) := dk_184 1 212 (dk_at dksX3_restore_2 21 rfl rfl)
theorem dX3_restore_72 : decode cX3_restore 72 = .ok (.return_, 1) := dk_177 (dk_at dksX3_restore_3 0 rfl rfl)
theorem q143 : (Jvm.Cond.initialized "NoteImporterModel") ∈ lw_all := lw_g (lw_at lw_m1 24 rfl) rfl
theorem q858 : (Jvm.Cond.selects "NoteImporterModel" ({ cls := "java/lang/Object", name := "getClass", desc := "()Ljava/lang/Class;" } : Jvm.MethodName) ({ cls := "java/lang/Object", name := "getClass", desc := "()Ljava/lang/Class;" } : Jvm.MethodName)) ∈ lw_all := lw_g (lw_at lw_m4 19 rfl) rfl
theorem q1198 : (Jvm.Cond.selects "NoteImporterModel" ({ cls := "java/lang/Object", name := "hashCode", desc := "()I" } : Jvm.MethodName) ({ cls := "java/lang/Object", name := "hashCode", desc := "()I" } : Jvm.MethodName)) ∈ lw_all := lw_g (lw_at lw_m5 119 rfl) rfl
theorem q1300 : (Jvm.Cond.selects "NoteImporterModel" ({ cls := "java/lang/Object", name := "equals", desc := "(Ljava/lang/Object;)Z" } : Jvm.MethodName) ({ cls := "java/lang/Object", name := "equals", desc := "(Ljava/lang/Object;)Z" } : Jvm.MethodName)) ∈ lw_all := lw_g (lw_at lw_m5 221 rfl) rfl
theorem q3125 : (Jvm.Cond.instantiable "NoteImporterModel" (45 : Nat)) ∈ lw_all := lw_g (lw_at lw_m13 126 rfl) rfl
theorem q3127 : (Jvm.Cond.instanceMethod ({ cls := "NoteImporterModel", name := "<init>", desc := "()V" } : Jvm.MethodName)) ∈ lw_all := lw_g (lw_at lw_m13 128 rfl) rfl
theorem q3128 : (Jvm.Cond.code ({ cls := "NoteImporterModel", name := "<init>", desc := "()V" } : Jvm.MethodName) prog_16_method_1_code (1 : Nat) (Option.none : Option Jvm.ClassFile.FieldType)) ∈ lw_all := lw_g (lw_at lw_m13 129 rfl) rfl
theorem q3129 : (Jvm.Cond.methodLink "NoteImporterModel" (1 : Nat) ({ cls := "java/lang/Object", name := "<init>", desc := "()V" } : Jvm.MethodName)) ∈ lw_all := lw_g (lw_at lw_m13 130 rfl) rfl
theorem q3130 : (Jvm.Cond.fieldLink "NoteImporterModel" (7 : Nat) "NoteImporterModel" "state" "[I") ∈ lw_all := lw_g (lw_at lw_m13 131 rfl) rfl
theorem q3131 : (Jvm.Cond.fieldLink "NoteImporterModel" (13 : Nat) "NoteImporterModel" "backup" "[I") ∈ lw_all := lw_g (lw_at lw_m13 132 rfl) rfl
theorem q3132 : (Jvm.Cond.fieldLink "NoteImporterModel" (16 : Nat) "NoteImporterModel" "saved" "[I") ∈ lw_all := lw_g (lw_at lw_m13 133 rfl) rfl
theorem q3133 : (Jvm.Cond.fieldLink "NoteImporterModel" (19 : Nat) "NoteImporterModel" "words" "[J") ∈ lw_all := lw_g (lw_at lw_m13 134 rfl) rfl
theorem q3134 : (Jvm.Cond.fieldLink "NoteImporterModel" (23 : Nat) "NoteImporterModel" "backupWords" "[J") ∈ lw_all := lw_g (lw_at lw_m13 135 rfl) rfl
theorem q3135 : (Jvm.Cond.fieldLink "NoteImporterModel" (26 : Nat) "NoteImporterModel" "savedWords" "[J") ∈ lw_all := lw_g (lw_at lw_m13 136 rfl) rfl
theorem q3136 : (Jvm.Cond.fieldLink "NoteImporterModel" (29 : Nat) "NoteImporterModel" "isSaved" "[Z") ∈ lw_all := lw_g (lw_at lw_m13 137 rfl) rfl
theorem q3137 : (Jvm.Cond.fieldLink "NoteImporterModel" (100 : Nat) "NoteImporterModel" "thrown" "I") ∈ lw_all := lw_g (lw_at lw_m13 138 rfl) rfl
theorem q3138 : (Jvm.Cond.fieldLink "NoteImporterModel" (33 : Nat) "NoteImporterModel" "text" "[I") ∈ lw_all := lw_g (lw_at lw_m13 139 rfl) rfl
theorem q3139 : (Jvm.Cond.fieldLink "NoteImporterModel" (138 : Nat) "NoteImporterModel" "textLength" "I") ∈ lw_all := lw_g (lw_at lw_m13 140 rfl) rfl
theorem q3140 : (Jvm.Cond.fieldLink "NoteImporterModel" (36 : Nat) "NoteImporterModel" "found" "[J") ∈ lw_all := lw_g (lw_at lw_m13 141 rfl) rfl
theorem q3141 : (Jvm.Cond.fieldLink "NoteImporterModel" (144 : Nat) "NoteImporterModel" "foundCount" "I") ∈ lw_all := lw_g (lw_at lw_m13 142 rfl) rfl
theorem q3142 : (Jvm.Cond.fieldLink "NoteImporterModel" (39 : Nat) "NoteImporterModel" "lineOf" "[I") ∈ lw_all := lw_g (lw_at lw_m13 143 rfl) rfl
theorem q3143 : (Jvm.Cond.fieldLink "NoteImporterModel" (42 : Nat) "NoteImporterModel" "columnOf" "[I") ∈ lw_all := lw_g (lw_at lw_m13 144 rfl) rfl
theorem q3144 : (Jvm.Cond.fieldLink "NoteImporterModel" (45 : Nat) "NoteImporterModel" "numberOf" "[I") ∈ lw_all := lw_g (lw_at lw_m13 145 rfl) rfl
theorem q3145 : (Jvm.Cond.fieldLink "NoteImporterModel" (48 : Nat) "NoteImporterModel" "common" "[I") ∈ lw_all := lw_g (lw_at lw_m13 146 rfl) rfl
theorem q3146 : (Jvm.Cond.fieldLink "NoteImporterModel" (51 : Nat) "NoteImporterModel" "partnerOf" "[I") ∈ lw_all := lw_g (lw_at lw_m13 147 rfl) rfl
theorem q3147 : (Jvm.Cond.fieldLink "NoteImporterModel" (54 : Nat) "NoteImporterModel" "anchorState" "[I") ∈ lw_all := lw_g (lw_at lw_m13 148 rfl) rfl
theorem q3148 : (Jvm.Cond.fieldLink "NoteImporterModel" (57 : Nat) "NoteImporterModel" "anchorFirst" "[I") ∈ lw_all := lw_g (lw_at lw_m13 149 rfl) rfl
theorem q3149 : (Jvm.Cond.fieldLink "NoteImporterModel" (60 : Nat) "NoteImporterModel" "anchorLast" "[I") ∈ lw_all := lw_g (lw_at lw_m13 150 rfl) rfl
theorem q3150 : (Jvm.Cond.fieldLink "NoteImporterModel" (63 : Nat) "NoteImporterModel" "anchorPartners" "[I") ∈ lw_all := lw_g (lw_at lw_m13 151 rfl) rfl
theorem q3151 : (Jvm.Cond.fieldLink "NoteImporterModel" (66 : Nat) "NoteImporterModel" "groupBy" "[I") ∈ lw_all := lw_g (lw_at lw_m13 152 rfl) rfl
theorem q3152 : (Jvm.Cond.fieldLink "NoteImporterModel" (69 : Nat) "NoteImporterModel" "groupFirst" "[I") ∈ lw_all := lw_g (lw_at lw_m13 153 rfl) rfl
theorem q3153 : (Jvm.Cond.fieldLink "NoteImporterModel" (72 : Nat) "NoteImporterModel" "groupLast" "[I") ∈ lw_all := lw_g (lw_at lw_m13 154 rfl) rfl
theorem q3154 : (Jvm.Cond.fieldLink "NoteImporterModel" (75 : Nat) "NoteImporterModel" "groupNote" "[I") ∈ lw_all := lw_g (lw_at lw_m13 155 rfl) rfl
theorem q3155 : (Jvm.Cond.fieldLink "NoteImporterModel" (78 : Nat) "NoteImporterModel" "groupLowest" "[I") ∈ lw_all := lw_g (lw_at lw_m13 156 rfl) rfl
theorem q3156 : (Jvm.Cond.fieldLink "NoteImporterModel" (81 : Nat) "NoteImporterModel" "groupNotes" "[I") ∈ lw_all := lw_g (lw_at lw_m13 157 rfl) rfl
theorem q3157 : (Jvm.Cond.fieldLink "NoteImporterModel" (84 : Nat) "NoteImporterModel" "groupReaders" "[I") ∈ lw_all := lw_g (lw_at lw_m13 158 rfl) rfl
theorem q3158 : (Jvm.Cond.fieldLink "NoteImporterModel" (161 : Nat) "NoteImporterModel" "groupCount" "I") ∈ lw_all := lw_g (lw_at lw_m13 159 rfl) rfl
theorem q3159 : (Jvm.Cond.fieldLink "NoteImporterModel" (87 : Nat) "NoteImporterModel" "queue" "[I") ∈ lw_all := lw_g (lw_at lw_m13 160 rfl) rfl
theorem q3160 : (Jvm.Cond.fieldLink "NoteImporterModel" (90 : Nat) "NoteImporterModel" "rows" "[I") ∈ lw_all := lw_g (lw_at lw_m13 161 rfl) rfl
theorem q3161 : (Jvm.Cond.fieldLink "NoteImporterModel" (312 : Nat) "NoteImporterModel" "setCount" "I") ∈ lw_all := lw_g (lw_at lw_m13 162 rfl) rfl
theorem q3162 : (Jvm.Cond.fieldLink "NoteImporterModel" (309 : Nat) "NoteImporterModel" "leftOutCount" "I") ∈ lw_all := lw_g (lw_at lw_m13 163 rfl) rfl
theorem q3163 : (Jvm.Cond.fieldLink "NoteImporterModel" (93 : Nat) "NoteImporterModel" "output" "[I") ∈ lw_all := lw_g (lw_at lw_m13 164 rfl) rfl
theorem q3164 : (Jvm.Cond.fieldLink "NoteImporterModel" (327 : Nat) "NoteImporterModel" "outputLength" "I") ∈ lw_all := lw_g (lw_at lw_m13 165 rfl) rfl
theorem q3165 : (Jvm.Cond.fieldLink "NoteImporterModel" (360 : Nat) "NoteImporterModel" "position" "I") ∈ lw_all := lw_g (lw_at lw_m13 166 rfl) rfl
theorem q3166 : (Jvm.Cond.fieldLink "NoteImporterModel" (363 : Nat) "NoteImporterModel" "tokenStart" "I") ∈ lw_all := lw_g (lw_at lw_m13 167 rfl) rfl
theorem q3167 : (Jvm.Cond.fieldLink "NoteImporterModel" (376 : Nat) "NoteImporterModel" "token" "I") ∈ lw_all := lw_g (lw_at lw_m13 168 rfl) rfl
theorem q3168 : (Jvm.Cond.fieldLink "NoteImporterModel" (366 : Nat) "NoteImporterModel" "letters" "I") ∈ lw_all := lw_g (lw_at lw_m13 169 rfl) rfl
theorem q3169 : (Jvm.Cond.fieldLink "NoteImporterModel" (373 : Nat) "NoteImporterModel" "number" "I") ∈ lw_all := lw_g (lw_at lw_m13 170 rfl) rfl
theorem q3170 : (Jvm.Cond.fieldLink "NoteImporterModel" (383 : Nat) "NoteImporterModel" "errorCode" "I") ∈ lw_all := lw_g (lw_at lw_m13 171 rfl) rfl
theorem q3171 : (Jvm.Cond.fieldLink "NoteImporterModel" (96 : Nat) "NoteImporterModel" "errorPosition" "I") ∈ lw_all := lw_g (lw_at lw_m13 172 rfl) rfl
theorem q3172 : (Jvm.Cond.fieldLink "NoteImporterModel" (369 : Nat) "NoteImporterModel" "word" "J") ∈ lw_all := lw_g (lw_at lw_m13 173 rfl) rfl
theorem q3173 : (Jvm.Cond.fieldLink "NoteImporterModel" (420 : Nat) "NoteImporterModel" "spanFirst" "I") ∈ lw_all := lw_g (lw_at lw_m13 174 rfl) rfl
theorem q3174 : (Jvm.Cond.fieldLink "NoteImporterModel" (425 : Nat) "NoteImporterModel" "spanLast" "I") ∈ lw_all := lw_g (lw_at lw_m13 175 rfl) rfl
theorem q3175 : (Jvm.Cond.laysFinal "NoteImporterModel" "NoteImporterModel" "state" "[I") ∈ lw_all := lw_g (lw_at lw_m13 176 rfl) rfl
theorem q3176 : (Jvm.Cond.soleField "NoteImporterModel" "state") ∈ lw_all := lw_g (lw_at lw_m13 177 rfl) rfl
theorem q3177 : (Jvm.Cond.laysFinal "NoteImporterModel" "NoteImporterModel" "backup" "[I") ∈ lw_all := lw_g (lw_at lw_m13 178 rfl) rfl
theorem q3178 : (Jvm.Cond.soleField "NoteImporterModel" "backup") ∈ lw_all := lw_g (lw_at lw_m13 179 rfl) rfl
theorem q3179 : (Jvm.Cond.laysFinal "NoteImporterModel" "NoteImporterModel" "saved" "[I") ∈ lw_all := lw_g (lw_at lw_m13 180 rfl) rfl
theorem q3180 : (Jvm.Cond.soleField "NoteImporterModel" "saved") ∈ lw_all := lw_g (lw_at lw_m13 181 rfl) rfl
theorem q3181 : (Jvm.Cond.laysFinal "NoteImporterModel" "NoteImporterModel" "words" "[J") ∈ lw_all := lw_g (lw_at lw_m13 182 rfl) rfl
theorem q3182 : (Jvm.Cond.soleField "NoteImporterModel" "words") ∈ lw_all := lw_g (lw_at lw_m13 183 rfl) rfl
theorem q3183 : (Jvm.Cond.laysFinal "NoteImporterModel" "NoteImporterModel" "backupWords" "[J") ∈ lw_all := lw_g (lw_at lw_m13 184 rfl) rfl
theorem q3184 : (Jvm.Cond.soleField "NoteImporterModel" "backupWords") ∈ lw_all := lw_g (lw_at lw_m13 185 rfl) rfl
theorem q3185 : (Jvm.Cond.laysFinal "NoteImporterModel" "NoteImporterModel" "savedWords" "[J") ∈ lw_all := lw_g (lw_at lw_m13 186 rfl) rfl
theorem q3186 : (Jvm.Cond.soleField "NoteImporterModel" "savedWords") ∈ lw_all := lw_g (lw_at lw_m13 187 rfl) rfl
theorem q3187 : (Jvm.Cond.laysFinal "NoteImporterModel" "NoteImporterModel" "isSaved" "[Z") ∈ lw_all := lw_g (lw_at lw_m13 188 rfl) rfl
theorem q3188 : (Jvm.Cond.soleField "NoteImporterModel" "isSaved") ∈ lw_all := lw_g (lw_at lw_m13 189 rfl) rfl
theorem q3189 : (Jvm.Cond.lays "NoteImporterModel" "NoteImporterModel" "thrown" "I") ∈ lw_all := lw_g (lw_at lw_m13 190 rfl) rfl
theorem q3190 : (Jvm.Cond.soleField "NoteImporterModel" "thrown") ∈ lw_all := lw_g (lw_at lw_m13 191 rfl) rfl
theorem q3191 : (Jvm.Cond.laysFinal "NoteImporterModel" "NoteImporterModel" "text" "[I") ∈ lw_all := lw_g (lw_at lw_m13 192 rfl) rfl
theorem q3192 : (Jvm.Cond.soleField "NoteImporterModel" "text") ∈ lw_all := lw_g (lw_at lw_m13 193 rfl) rfl
theorem q3193 : (Jvm.Cond.lays "NoteImporterModel" "NoteImporterModel" "textLength" "I") ∈ lw_all := lw_g (lw_at lw_m13 194 rfl) rfl
theorem q3194 : (Jvm.Cond.soleField "NoteImporterModel" "textLength") ∈ lw_all := lw_g (lw_at lw_m13 195 rfl) rfl
theorem q3195 : (Jvm.Cond.laysFinal "NoteImporterModel" "NoteImporterModel" "found" "[J") ∈ lw_all := lw_g (lw_at lw_m13 196 rfl) rfl
theorem q3196 : (Jvm.Cond.soleField "NoteImporterModel" "found") ∈ lw_all := lw_g (lw_at lw_m13 197 rfl) rfl
theorem q3197 : (Jvm.Cond.lays "NoteImporterModel" "NoteImporterModel" "foundCount" "I") ∈ lw_all := lw_g (lw_at lw_m13 198 rfl) rfl
theorem q3198 : (Jvm.Cond.soleField "NoteImporterModel" "foundCount") ∈ lw_all := lw_g (lw_at lw_m13 199 rfl) rfl
theorem q3199 : (Jvm.Cond.laysFinal "NoteImporterModel" "NoteImporterModel" "lineOf" "[I") ∈ lw_all := lw_g (lw_at lw_m13 200 rfl) rfl
theorem q3200 : (Jvm.Cond.soleField "NoteImporterModel" "lineOf") ∈ lw_all := lw_g (lw_at lw_m13 201 rfl) rfl
theorem q3201 : (Jvm.Cond.laysFinal "NoteImporterModel" "NoteImporterModel" "columnOf" "[I") ∈ lw_all := lw_g (lw_at lw_m13 202 rfl) rfl
theorem q3202 : (Jvm.Cond.soleField "NoteImporterModel" "columnOf") ∈ lw_all := lw_g (lw_at lw_m13 203 rfl) rfl
theorem q3203 : (Jvm.Cond.laysFinal "NoteImporterModel" "NoteImporterModel" "numberOf" "[I") ∈ lw_all := lw_g (lw_at lw_m13 204 rfl) rfl
theorem q3204 : (Jvm.Cond.soleField "NoteImporterModel" "numberOf") ∈ lw_all := lw_g (lw_at lw_m13 205 rfl) rfl
theorem q3205 : (Jvm.Cond.laysFinal "NoteImporterModel" "NoteImporterModel" "common" "[I") ∈ lw_all := lw_g (lw_at lw_m13 206 rfl) rfl
theorem q3206 : (Jvm.Cond.soleField "NoteImporterModel" "common") ∈ lw_all := lw_g (lw_at lw_m13 207 rfl) rfl
theorem q3207 : (Jvm.Cond.laysFinal "NoteImporterModel" "NoteImporterModel" "partnerOf" "[I") ∈ lw_all := lw_g (lw_at lw_m13 208 rfl) rfl
theorem q3208 : (Jvm.Cond.soleField "NoteImporterModel" "partnerOf") ∈ lw_all := lw_g (lw_at lw_m13 209 rfl) rfl
theorem q3209 : (Jvm.Cond.laysFinal "NoteImporterModel" "NoteImporterModel" "anchorState" "[I") ∈ lw_all := lw_g (lw_at lw_m13 210 rfl) rfl
theorem q3210 : (Jvm.Cond.soleField "NoteImporterModel" "anchorState") ∈ lw_all := lw_g (lw_at lw_m13 211 rfl) rfl
theorem q3211 : (Jvm.Cond.laysFinal "NoteImporterModel" "NoteImporterModel" "anchorFirst" "[I") ∈ lw_all := lw_g (lw_at lw_m13 212 rfl) rfl
theorem q3212 : (Jvm.Cond.soleField "NoteImporterModel" "anchorFirst") ∈ lw_all := lw_g (lw_at lw_m13 213 rfl) rfl
theorem q3213 : (Jvm.Cond.laysFinal "NoteImporterModel" "NoteImporterModel" "anchorLast" "[I") ∈ lw_all := lw_g (lw_at lw_m13 214 rfl) rfl
theorem q3214 : (Jvm.Cond.soleField "NoteImporterModel" "anchorLast") ∈ lw_all := lw_g (lw_at lw_m13 215 rfl) rfl
theorem q3215 : (Jvm.Cond.laysFinal "NoteImporterModel" "NoteImporterModel" "anchorPartners" "[I") ∈ lw_all := lw_g (lw_at lw_m13 216 rfl) rfl
theorem q3216 : (Jvm.Cond.soleField "NoteImporterModel" "anchorPartners") ∈ lw_all := lw_g (lw_at lw_m13 217 rfl) rfl
theorem q3217 : (Jvm.Cond.laysFinal "NoteImporterModel" "NoteImporterModel" "groupBy" "[I") ∈ lw_all := lw_g (lw_at lw_m13 218 rfl) rfl
theorem q3218 : (Jvm.Cond.soleField "NoteImporterModel" "groupBy") ∈ lw_all := lw_g (lw_at lw_m13 219 rfl) rfl
theorem q3219 : (Jvm.Cond.laysFinal "NoteImporterModel" "NoteImporterModel" "groupFirst" "[I") ∈ lw_all := lw_g (lw_at lw_m13 220 rfl) rfl
theorem q3220 : (Jvm.Cond.soleField "NoteImporterModel" "groupFirst") ∈ lw_all := lw_g (lw_at lw_m13 221 rfl) rfl
theorem q3221 : (Jvm.Cond.laysFinal "NoteImporterModel" "NoteImporterModel" "groupLast" "[I") ∈ lw_all := lw_g (lw_at lw_m13 222 rfl) rfl
theorem q3222 : (Jvm.Cond.soleField "NoteImporterModel" "groupLast") ∈ lw_all := lw_g (lw_at lw_m13 223 rfl) rfl
theorem q3223 : (Jvm.Cond.laysFinal "NoteImporterModel" "NoteImporterModel" "groupNote" "[I") ∈ lw_all := lw_g (lw_at lw_m13 224 rfl) rfl
theorem q3224 : (Jvm.Cond.soleField "NoteImporterModel" "groupNote") ∈ lw_all := lw_g (lw_at lw_m13 225 rfl) rfl
theorem q3225 : (Jvm.Cond.laysFinal "NoteImporterModel" "NoteImporterModel" "groupLowest" "[I") ∈ lw_all := lw_g (lw_at lw_m13 226 rfl) rfl
theorem q3226 : (Jvm.Cond.soleField "NoteImporterModel" "groupLowest") ∈ lw_all := lw_g (lw_at lw_m13 227 rfl) rfl
theorem q3227 : (Jvm.Cond.laysFinal "NoteImporterModel" "NoteImporterModel" "groupNotes" "[I") ∈ lw_all := lw_g (lw_at lw_m13 228 rfl) rfl
theorem q3228 : (Jvm.Cond.soleField "NoteImporterModel" "groupNotes") ∈ lw_all := lw_g (lw_at lw_m13 229 rfl) rfl
theorem q3229 : (Jvm.Cond.laysFinal "NoteImporterModel" "NoteImporterModel" "groupReaders" "[I") ∈ lw_all := lw_g (lw_at lw_m13 230 rfl) rfl
theorem q3230 : (Jvm.Cond.soleField "NoteImporterModel" "groupReaders") ∈ lw_all := lw_g (lw_at lw_m13 231 rfl) rfl
theorem q3231 : (Jvm.Cond.lays "NoteImporterModel" "NoteImporterModel" "groupCount" "I") ∈ lw_all := lw_g (lw_at lw_m13 232 rfl) rfl
theorem q3232 : (Jvm.Cond.soleField "NoteImporterModel" "groupCount") ∈ lw_all := lw_g (lw_at lw_m13 233 rfl) rfl
theorem q3233 : (Jvm.Cond.laysFinal "NoteImporterModel" "NoteImporterModel" "queue" "[I") ∈ lw_all := lw_g (lw_at lw_m13 234 rfl) rfl
theorem q3234 : (Jvm.Cond.soleField "NoteImporterModel" "queue") ∈ lw_all := lw_g (lw_at lw_m13 235 rfl) rfl
theorem q3235 : (Jvm.Cond.laysFinal "NoteImporterModel" "NoteImporterModel" "rows" "[I") ∈ lw_all := lw_g (lw_at lw_m13 236 rfl) rfl
theorem q3236 : (Jvm.Cond.soleField "NoteImporterModel" "rows") ∈ lw_all := lw_g (lw_at lw_m13 237 rfl) rfl
theorem q3237 : (Jvm.Cond.lays "NoteImporterModel" "NoteImporterModel" "setCount" "I") ∈ lw_all := lw_g (lw_at lw_m13 238 rfl) rfl
theorem q3238 : (Jvm.Cond.soleField "NoteImporterModel" "setCount") ∈ lw_all := lw_g (lw_at lw_m13 239 rfl) rfl
theorem q3239 : (Jvm.Cond.lays "NoteImporterModel" "NoteImporterModel" "leftOutCount" "I") ∈ lw_all := lw_g (lw_at lw_m14 0 rfl) rfl
theorem q3240 : (Jvm.Cond.soleField "NoteImporterModel" "leftOutCount") ∈ lw_all := lw_g (lw_at lw_m14 1 rfl) rfl
theorem q3241 : (Jvm.Cond.laysFinal "NoteImporterModel" "NoteImporterModel" "output" "[I") ∈ lw_all := lw_g (lw_at lw_m14 2 rfl) rfl
theorem q3242 : (Jvm.Cond.soleField "NoteImporterModel" "output") ∈ lw_all := lw_g (lw_at lw_m14 3 rfl) rfl
theorem q3243 : (Jvm.Cond.lays "NoteImporterModel" "NoteImporterModel" "outputLength" "I") ∈ lw_all := lw_g (lw_at lw_m14 4 rfl) rfl
theorem q3244 : (Jvm.Cond.soleField "NoteImporterModel" "outputLength") ∈ lw_all := lw_g (lw_at lw_m14 5 rfl) rfl
theorem q3245 : (Jvm.Cond.lays "NoteImporterModel" "NoteImporterModel" "position" "I") ∈ lw_all := lw_g (lw_at lw_m14 6 rfl) rfl
theorem q3246 : (Jvm.Cond.soleField "NoteImporterModel" "position") ∈ lw_all := lw_g (lw_at lw_m14 7 rfl) rfl
theorem q3247 : (Jvm.Cond.lays "NoteImporterModel" "NoteImporterModel" "tokenStart" "I") ∈ lw_all := lw_g (lw_at lw_m14 8 rfl) rfl
theorem q3248 : (Jvm.Cond.soleField "NoteImporterModel" "tokenStart") ∈ lw_all := lw_g (lw_at lw_m14 9 rfl) rfl
theorem q3249 : (Jvm.Cond.lays "NoteImporterModel" "NoteImporterModel" "token" "I") ∈ lw_all := lw_g (lw_at lw_m14 10 rfl) rfl
theorem q3250 : (Jvm.Cond.soleField "NoteImporterModel" "token") ∈ lw_all := lw_g (lw_at lw_m14 11 rfl) rfl
theorem q3251 : (Jvm.Cond.lays "NoteImporterModel" "NoteImporterModel" "letters" "I") ∈ lw_all := lw_g (lw_at lw_m14 12 rfl) rfl
theorem q3252 : (Jvm.Cond.soleField "NoteImporterModel" "letters") ∈ lw_all := lw_g (lw_at lw_m14 13 rfl) rfl
theorem q3253 : (Jvm.Cond.lays "NoteImporterModel" "NoteImporterModel" "number" "I") ∈ lw_all := lw_g (lw_at lw_m14 14 rfl) rfl
theorem q3254 : (Jvm.Cond.soleField "NoteImporterModel" "number") ∈ lw_all := lw_g (lw_at lw_m14 15 rfl) rfl
theorem q3255 : (Jvm.Cond.lays "NoteImporterModel" "NoteImporterModel" "errorCode" "I") ∈ lw_all := lw_g (lw_at lw_m14 16 rfl) rfl
theorem q3256 : (Jvm.Cond.soleField "NoteImporterModel" "errorCode") ∈ lw_all := lw_g (lw_at lw_m14 17 rfl) rfl
theorem q3257 : (Jvm.Cond.lays "NoteImporterModel" "NoteImporterModel" "errorPosition" "I") ∈ lw_all := lw_g (lw_at lw_m14 18 rfl) rfl
theorem q3258 : (Jvm.Cond.soleField "NoteImporterModel" "errorPosition") ∈ lw_all := lw_g (lw_at lw_m14 19 rfl) rfl
theorem q3259 : (Jvm.Cond.lays "NoteImporterModel" "NoteImporterModel" "word" "J") ∈ lw_all := lw_g (lw_at lw_m14 20 rfl) rfl
theorem q3260 : (Jvm.Cond.soleField "NoteImporterModel" "word") ∈ lw_all := lw_g (lw_at lw_m14 21 rfl) rfl
theorem q3261 : (Jvm.Cond.lays "NoteImporterModel" "NoteImporterModel" "spanFirst" "I") ∈ lw_all := lw_g (lw_at lw_m14 22 rfl) rfl
theorem q3262 : (Jvm.Cond.soleField "NoteImporterModel" "spanFirst") ∈ lw_all := lw_g (lw_at lw_m14 23 rfl) rfl
theorem q3263 : (Jvm.Cond.lays "NoteImporterModel" "NoteImporterModel" "spanLast" "I") ∈ lw_all := lw_g (lw_at lw_m14 24 rfl) rfl
theorem q3264 : (Jvm.Cond.soleField "NoteImporterModel" "spanLast") ∈ lw_all := lw_g (lw_at lw_m14 25 rfl) rfl
theorem q3265 : (Jvm.Cond.superclass "NoteImporterModel" "java/lang/Object") ∈ lw_all := lw_g (lw_at lw_m14 26 rfl) rfl
theorem q3269 : (Jvm.Cond.instanceMethod ({ cls := "NoteImporterModel", name := "thrown", desc := "()I" } : Jvm.MethodName)) ∈ lw_all := lw_g (lw_at lw_m14 30 rfl) rfl
theorem q3270 : (Jvm.Cond.selects "NoteImporterModel" ({ cls := "NoteImporterModel", name := "thrown", desc := "()I" } : Jvm.MethodName) ({ cls := "NoteImporterModel", name := "thrown", desc := "()I" } : Jvm.MethodName)) ∈ lw_all := lw_g (lw_at lw_m14 31 rfl) rfl
theorem q3271 : (Jvm.Cond.code ({ cls := "NoteImporterModel", name := "thrown", desc := "()I" } : Jvm.MethodName) prog_16_method_2_code (1 : Nat) (Option.some Jvm.ClassFile.FieldType.int)) ∈ lw_all := lw_g (lw_at lw_m14 32 rfl) rfl
theorem q3273 : (Jvm.Cond.instanceMethod ({ cls := "NoteImporterModel", name := "appendText", desc := "(I)I" } : Jvm.MethodName)) ∈ lw_all := lw_g (lw_at lw_m14 34 rfl) rfl
theorem q3274 : (Jvm.Cond.selects "NoteImporterModel" ({ cls := "NoteImporterModel", name := "appendText", desc := "(I)I" } : Jvm.MethodName) ({ cls := "NoteImporterModel", name := "appendText", desc := "(I)I" } : Jvm.MethodName)) ∈ lw_all := lw_g (lw_at lw_m14 35 rfl) rfl
theorem q3275 : (Jvm.Cond.code ({ cls := "NoteImporterModel", name := "appendText", desc := "(I)I" } : Jvm.MethodName) prog_16_method_24_code (3 : Nat) (Option.some Jvm.ClassFile.FieldType.int)) ∈ lw_all := lw_g (lw_at lw_m14 36 rfl) rfl
theorem q3276 : (Jvm.Cond.methodLink "NoteImporterModel" (141 : Nat) ({ cls := "NoteImporterModel", name := "fail", desc := "(I)I" } : Jvm.MethodName)) ∈ lw_all := lw_g (lw_at lw_m14 37 rfl) rfl
theorem q3277 : (Jvm.Cond.privateMethod ({ cls := "NoteImporterModel", name := "fail", desc := "(I)I" } : Jvm.MethodName)) ∈ lw_tbl := lw_at lw_m14 38 rfl
theorem q3278 : (Jvm.Cond.instanceMethod ({ cls := "NoteImporterModel", name := "fail", desc := "(I)I" } : Jvm.MethodName)) ∈ lw_all := lw_g (lw_at lw_m14 39 rfl) rfl
theorem q3279 : (Jvm.Cond.code ({ cls := "NoteImporterModel", name := "fail", desc := "(I)I" } : Jvm.MethodName) prog_16_method_3_code (2 : Nat) (Option.some Jvm.ClassFile.FieldType.int)) ∈ lw_all := lw_g (lw_at lw_m14 40 rfl) rfl
theorem q3281 : (Jvm.Cond.instanceMethod ({ cls := "NoteImporterModel", name := "truncateText", desc := "(I)I" } : Jvm.MethodName)) ∈ lw_all := lw_g (lw_at lw_m14 42 rfl) rfl
theorem q3282 : (Jvm.Cond.selects "NoteImporterModel" ({ cls := "NoteImporterModel", name := "truncateText", desc := "(I)I" } : Jvm.MethodName) ({ cls := "NoteImporterModel", name := "truncateText", desc := "(I)I" } : Jvm.MethodName)) ∈ lw_all := lw_g (lw_at lw_m14 43 rfl) rfl
theorem q3283 : (Jvm.Cond.code ({ cls := "NoteImporterModel", name := "truncateText", desc := "(I)I" } : Jvm.MethodName) prog_16_method_25_code (2 : Nat) (Option.some Jvm.ClassFile.FieldType.int)) ∈ lw_all := lw_g (lw_at lw_m14 44 rfl) rfl
theorem q3284 : (Jvm.Cond.methodLink "NoteImporterModel" (111 : Nat) ({ cls := "NoteImporterModel", name := "isBetween", desc := "(III)Z" } : Jvm.MethodName)) ∈ lw_all := lw_g (lw_at lw_m14 45 rfl) rfl
theorem q3285 : (Jvm.Cond.static ({ cls := "NoteImporterModel", name := "isBetween", desc := "(III)Z" } : Jvm.MethodName)) ∈ lw_all := lw_g (lw_at lw_m14 46 rfl) rfl
theorem q3286 : (Jvm.Cond.code ({ cls := "NoteImporterModel", name := "isBetween", desc := "(III)Z" } : Jvm.MethodName) prog_16_method_4_code (3 : Nat) (Option.some Jvm.ClassFile.FieldType.boolean)) ∈ lw_all := lw_g (lw_at lw_m14 47 rfl) rfl
theorem q3288 : (Jvm.Cond.instanceMethod ({ cls := "NoteImporterModel", name := "count", desc := "(I)I" } : Jvm.MethodName)) ∈ lw_all := lw_g (lw_at lw_m14 49 rfl) rfl
theorem q3289 : (Jvm.Cond.selects "NoteImporterModel" ({ cls := "NoteImporterModel", name := "count", desc := "(I)I" } : Jvm.MethodName) ({ cls := "NoteImporterModel", name := "count", desc := "(I)I" } : Jvm.MethodName)) ∈ lw_all := lw_g (lw_at lw_m14 50 rfl) rfl
theorem q3290 : (Jvm.Cond.code ({ cls := "NoteImporterModel", name := "count", desc := "(I)I" } : Jvm.MethodName) prog_16_method_31_code (2 : Nat) (Option.some Jvm.ClassFile.FieldType.int)) ∈ lw_all := lw_g (lw_at lw_m14 51 rfl) rfl
theorem q3291 : (Jvm.Cond.methodLink "NoteImporterModel" (158 : Nat) ({ cls := "NoteImporterModel", name := "layGroups", desc := "()V" } : Jvm.MethodName)) ∈ lw_all := lw_g (lw_at lw_m14 52 rfl) rfl
theorem q3292 : (Jvm.Cond.privateMethod ({ cls := "NoteImporterModel", name := "layGroups", desc := "()V" } : Jvm.MethodName)) ∈ lw_tbl := lw_at lw_m14 53 rfl
theorem q3293 : (Jvm.Cond.instanceMethod ({ cls := "NoteImporterModel", name := "layGroups", desc := "()V" } : Jvm.MethodName)) ∈ lw_all := lw_g (lw_at lw_m14 54 rfl) rfl
theorem q3294 : (Jvm.Cond.code ({ cls := "NoteImporterModel", name := "layGroups", desc := "()V" } : Jvm.MethodName) prog_16_method_77_code (2 : Nat) (Option.none : Option Jvm.ClassFile.FieldType)) ∈ lw_all := lw_g (lw_at lw_m14 55 rfl) rfl
theorem q3295 : (Jvm.Cond.methodLink "NoteImporterModel" (262 : Nat) ({ cls := "NoteImporterModel", name := "layAnchors", desc := "()V" } : Jvm.MethodName)) ∈ lw_all := lw_g (lw_at lw_m14 56 rfl) rfl
theorem q3296 : (Jvm.Cond.privateMethod ({ cls := "NoteImporterModel", name := "layAnchors", desc := "()V" } : Jvm.MethodName)) ∈ lw_tbl := lw_at lw_m14 57 rfl
theorem q3297 : (Jvm.Cond.instanceMethod ({ cls := "NoteImporterModel", name := "layAnchors", desc := "()V" } : Jvm.MethodName)) ∈ lw_all := lw_g (lw_at lw_m14 58 rfl) rfl
theorem q3298 : (Jvm.Cond.code ({ cls := "NoteImporterModel", name := "layAnchors", desc := "()V" } : Jvm.MethodName) prog_16_method_65_code (3 : Nat) (Option.none : Option Jvm.ClassFile.FieldType)) ∈ lw_all := lw_g (lw_at lw_m14 59 rfl) rfl
theorem q3299 : (Jvm.Cond.methodLink "NoteImporterModel" (107 : Nat) ({ cls := "NoteImporterModel", name := "editions", desc := "()I" } : Jvm.MethodName)) ∈ lw_all := lw_g (lw_at lw_m14 60 rfl) rfl
theorem q3300 : (Jvm.Cond.privateMethod ({ cls := "NoteImporterModel", name := "editions", desc := "()I" } : Jvm.MethodName)) ∈ lw_tbl := lw_at lw_m14 61 rfl
theorem q3301 : (Jvm.Cond.instanceMethod ({ cls := "NoteImporterModel", name := "editions", desc := "()I" } : Jvm.MethodName)) ∈ lw_all := lw_g (lw_at lw_m14 62 rfl) rfl
theorem q3302 : (Jvm.Cond.code ({ cls := "NoteImporterModel", name := "editions", desc := "()I" } : Jvm.MethodName) prog_16_method_7_code (1 : Nat) (Option.some Jvm.ClassFile.FieldType.int)) ∈ lw_all := lw_g (lw_at lw_m14 63 rfl) rfl
theorem q3303 : (Jvm.Cond.methodLink "NoteImporterModel" (252 : Nat) ({ cls := "NoteImporterModel", name := "align", desc := "(I)V" } : Jvm.MethodName)) ∈ lw_all := lw_g (lw_at lw_m14 64 rfl) rfl
theorem q3304 : (Jvm.Cond.privateMethod ({ cls := "NoteImporterModel", name := "align", desc := "(I)V" } : Jvm.MethodName)) ∈ lw_tbl := lw_at lw_m14 65 rfl
theorem q3305 : (Jvm.Cond.instanceMethod ({ cls := "NoteImporterModel", name := "align", desc := "(I)V" } : Jvm.MethodName)) ∈ lw_all := lw_g (lw_at lw_m14 66 rfl) rfl
theorem q3306 : (Jvm.Cond.code ({ cls := "NoteImporterModel", name := "align", desc := "(I)V" } : Jvm.MethodName) prog_16_method_60_code (4 : Nat) (Option.none : Option Jvm.ClassFile.FieldType)) ∈ lw_all := lw_g (lw_at lw_m14 67 rfl) rfl
theorem q3307 : (Jvm.Cond.methodLink "NoteImporterModel" (119 : Nat) ({ cls := "NoteImporterModel", name := "sizeOf", desc := "(I)I" } : Jvm.MethodName)) ∈ lw_all := lw_g (lw_at lw_m14 68 rfl) rfl
theorem q3308 : (Jvm.Cond.privateMethod ({ cls := "NoteImporterModel", name := "sizeOf", desc := "(I)I" } : Jvm.MethodName)) ∈ lw_tbl := lw_at lw_m14 69 rfl
theorem q3309 : (Jvm.Cond.instanceMethod ({ cls := "NoteImporterModel", name := "sizeOf", desc := "(I)I" } : Jvm.MethodName)) ∈ lw_all := lw_g (lw_at lw_m14 70 rfl) rfl
theorem q3310 : (Jvm.Cond.code ({ cls := "NoteImporterModel", name := "sizeOf", desc := "(I)I" } : Jvm.MethodName) prog_16_method_12_code (2 : Nat) (Option.some Jvm.ClassFile.FieldType.int)) ∈ lw_all := lw_g (lw_at lw_m14 71 rfl) rfl
theorem q3311 : (Jvm.Cond.methodLink "NoteImporterModel" (103 : Nat) ({ cls := "NoteImporterModel", name := "ofEdition", desc := "(II)I" } : Jvm.MethodName)) ∈ lw_all := lw_g (lw_at lw_m14 72 rfl) rfl
theorem q3312 : (Jvm.Cond.privateMethod ({ cls := "NoteImporterModel", name := "ofEdition", desc := "(II)I" } : Jvm.MethodName)) ∈ lw_tbl := lw_at lw_m14 73 rfl
theorem q3313 : (Jvm.Cond.instanceMethod ({ cls := "NoteImporterModel", name := "ofEdition", desc := "(II)I" } : Jvm.MethodName)) ∈ lw_all := lw_g (lw_at lw_m14 74 rfl) rfl
theorem q3314 : (Jvm.Cond.code ({ cls := "NoteImporterModel", name := "ofEdition", desc := "(II)I" } : Jvm.MethodName) prog_16_method_11_code (3 : Nat) (Option.some Jvm.ClassFile.FieldType.int)) ∈ lw_all := lw_g (lw_at lw_m14 75 rfl) rfl
theorem q3315 : (Jvm.Cond.methodLink "NoteImporterModel" (164 : Nat) ({ cls := "NoteImporterModel", name := "target", desc := "()I" } : Jvm.MethodName)) ∈ lw_all := lw_g (lw_at lw_m14 76 rfl) rfl
theorem q3316 : (Jvm.Cond.privateMethod ({ cls := "NoteImporterModel", name := "target", desc := "()I" } : Jvm.MethodName)) ∈ lw_tbl := lw_at lw_m14 77 rfl
theorem q3317 : (Jvm.Cond.instanceMethod ({ cls := "NoteImporterModel", name := "target", desc := "()I" } : Jvm.MethodName)) ∈ lw_all := lw_g (lw_at lw_m14 78 rfl) rfl
theorem q3318 : (Jvm.Cond.code ({ cls := "NoteImporterModel", name := "target", desc := "()I" } : Jvm.MethodName) prog_16_method_10_code (1 : Nat) (Option.some Jvm.ClassFile.FieldType.int)) ∈ lw_all := lw_g (lw_at lw_m14 79 rfl) rfl
theorem q3319 : (Jvm.Cond.methodLink "NoteImporterModel" (249 : Nat) ({ cls := "NoteImporterModel", name := "layCommon", desc := "(I)V" } : Jvm.MethodName)) ∈ lw_all := lw_g (lw_at lw_m14 80 rfl) rfl
theorem q3320 : (Jvm.Cond.privateMethod ({ cls := "NoteImporterModel", name := "layCommon", desc := "(I)V" } : Jvm.MethodName)) ∈ lw_tbl := lw_at lw_m14 81 rfl
theorem q3321 : (Jvm.Cond.instanceMethod ({ cls := "NoteImporterModel", name := "layCommon", desc := "(I)V" } : Jvm.MethodName)) ∈ lw_all := lw_g (lw_at lw_m14 82 rfl) rfl
theorem q3322 : (Jvm.Cond.code ({ cls := "NoteImporterModel", name := "layCommon", desc := "(I)V" } : Jvm.MethodName) prog_16_method_59_code (9 : Nat) (Option.none : Option Jvm.ClassFile.FieldType)) ∈ lw_all := lw_g (lw_at lw_m14 83 rfl) rfl
theorem q3323 : (Jvm.Cond.methodLink "NoteImporterModel" (181 : Nat) ({ cls := "NoteImporterModel", name := "wordOf", desc := "(II)J" } : Jvm.MethodName)) ∈ lw_all := lw_g (lw_at lw_m14 84 rfl) rfl
theorem q3324 : (Jvm.Cond.privateMethod ({ cls := "NoteImporterModel", name := "wordOf", desc := "(II)J" } : Jvm.MethodName)) ∈ lw_tbl := lw_at lw_m14 85 rfl
theorem q3325 : (Jvm.Cond.instanceMethod ({ cls := "NoteImporterModel", name := "wordOf", desc := "(II)J" } : Jvm.MethodName)) ∈ lw_all := lw_g (lw_at lw_m14 86 rfl) rfl
theorem q3326 : (Jvm.Cond.code ({ cls := "NoteImporterModel", name := "wordOf", desc := "(II)J" } : Jvm.MethodName) prog_16_method_19_code (3 : Nat) (Option.some Jvm.ClassFile.FieldType.long)) ∈ lw_all := lw_g (lw_at lw_m14 87 rfl) rfl
theorem q3327 : (Jvm.Cond.methodLink "NoteImporterModel" (129 : Nat) ({ cls := "NoteImporterModel", name := "wordPlace", desc := "(II)I" } : Jvm.MethodName)) ∈ lw_all := lw_g (lw_at lw_m14 88 rfl) rfl
theorem q3328 : (Jvm.Cond.static ({ cls := "NoteImporterModel", name := "wordPlace", desc := "(II)I" } : Jvm.MethodName)) ∈ lw_all := lw_g (lw_at lw_m14 89 rfl) rfl
theorem q3329 : (Jvm.Cond.code ({ cls := "NoteImporterModel", name := "wordPlace", desc := "(II)I" } : Jvm.MethodName) prog_16_method_18_code (2 : Nat) (Option.some Jvm.ClassFile.FieldType.int)) ∈ lw_all := lw_g (lw_at lw_m14 90 rfl) rfl
theorem q3330 : (Jvm.Cond.methodLink "NoteImporterModel" (243 : Nat) ({ cls := "NoteImporterModel", name := "commonPlace", desc := "(II)I" } : Jvm.MethodName)) ∈ lw_all := lw_g (lw_at lw_m14 91 rfl) rfl
theorem q3331 : (Jvm.Cond.static ({ cls := "NoteImporterModel", name := "commonPlace", desc := "(II)I" } : Jvm.MethodName)) ∈ lw_all := lw_g (lw_at lw_m14 92 rfl) rfl
theorem q3332 : (Jvm.Cond.code ({ cls := "NoteImporterModel", name := "commonPlace", desc := "(II)I" } : Jvm.MethodName) prog_16_method_58_code (2 : Nat) (Option.some Jvm.ClassFile.FieldType.int)) ∈ lw_all := lw_g (lw_at lw_m14 93 rfl) rfl
theorem q3333 : (Jvm.Cond.methodLink "NoteImporterModel" (246 : Nat) ({ cls := "java/lang/Math", name := "max", desc := "(II)I" } : Jvm.MethodName)) ∈ lw_all := lw_g (lw_at lw_m14 94 rfl) rfl
theorem q3334 : (Jvm.Cond.methodLink "NoteImporterModel" (126 : Nat) ({ cls := "NoteImporterModel", name := "notes", desc := "()I" } : Jvm.MethodName)) ∈ lw_all := lw_g (lw_at lw_m14 95 rfl) rfl
theorem q3335 : (Jvm.Cond.privateMethod ({ cls := "NoteImporterModel", name := "notes", desc := "()I" } : Jvm.MethodName)) ∈ lw_tbl := lw_at lw_m14 96 rfl
theorem q3336 : (Jvm.Cond.instanceMethod ({ cls := "NoteImporterModel", name := "notes", desc := "()I" } : Jvm.MethodName)) ∈ lw_all := lw_g (lw_at lw_m14 97 rfl) rfl
theorem q3337 : (Jvm.Cond.code ({ cls := "NoteImporterModel", name := "notes", desc := "()I" } : Jvm.MethodName) prog_16_method_9_code (1 : Nat) (Option.some Jvm.ClassFile.FieldType.int)) ∈ lw_all := lw_g (lw_at lw_m14 98 rfl) rfl
theorem q3338 : (Jvm.Cond.methodLink "NoteImporterModel" (205 : Nat) ({ cls := "NoteImporterModel", name := "ofNote", desc := "(II)I" } : Jvm.MethodName)) ∈ lw_all := lw_g (lw_at lw_m14 99 rfl) rfl
theorem q3339 : (Jvm.Cond.privateMethod ({ cls := "NoteImporterModel", name := "ofNote", desc := "(II)I" } : Jvm.MethodName)) ∈ lw_tbl := lw_at lw_m14 100 rfl
theorem q3340 : (Jvm.Cond.instanceMethod ({ cls := "NoteImporterModel", name := "ofNote", desc := "(II)I" } : Jvm.MethodName)) ∈ lw_all := lw_g (lw_at lw_m14 101 rfl) rfl
theorem q3341 : (Jvm.Cond.code ({ cls := "NoteImporterModel", name := "ofNote", desc := "(II)I" } : Jvm.MethodName) prog_16_method_13_code (3 : Nat) (Option.some Jvm.ClassFile.FieldType.int)) ∈ lw_all := lw_g (lw_at lw_m14 102 rfl) rfl
theorem q3342 : (Jvm.Cond.methodLink "NoteImporterModel" (259 : Nat) ({ cls := "NoteImporterModel", name := "layAnchor", desc := "(I)V" } : Jvm.MethodName)) ∈ lw_all := lw_g (lw_at lw_m14 103 rfl) rfl
theorem q3343 : (Jvm.Cond.privateMethod ({ cls := "NoteImporterModel", name := "layAnchor", desc := "(I)V" } : Jvm.MethodName)) ∈ lw_tbl := lw_at lw_m14 104 rfl
theorem q3344 : (Jvm.Cond.instanceMethod ({ cls := "NoteImporterModel", name := "layAnchor", desc := "(I)V" } : Jvm.MethodName)) ∈ lw_all := lw_g (lw_at lw_m14 105 rfl) rfl
theorem q3345 : (Jvm.Cond.code ({ cls := "NoteImporterModel", name := "layAnchor", desc := "(I)V" } : Jvm.MethodName) prog_16_method_64_code (10 : Nat) (Option.none : Option Jvm.ClassFile.FieldType)) ∈ lw_all := lw_g (lw_at lw_m14 106 rfl) rfl
theorem q3346 : (Jvm.Cond.methodLink "NoteImporterModel" (255 : Nat) ({ cls := "NoteImporterModel", name := "nearestWith", desc := "(III)I" } : Jvm.MethodName)) ∈ lw_all := lw_g (lw_at lw_m14 107 rfl) rfl
theorem q3347 : (Jvm.Cond.privateMethod ({ cls := "NoteImporterModel", name := "nearestWith", desc := "(III)I" } : Jvm.MethodName)) ∈ lw_tbl := lw_at lw_m14 108 rfl
theorem q3348 : (Jvm.Cond.instanceMethod ({ cls := "NoteImporterModel", name := "nearestWith", desc := "(III)I" } : Jvm.MethodName)) ∈ lw_all := lw_g (lw_at lw_m14 109 rfl) rfl
theorem q3349 : (Jvm.Cond.code ({ cls := "NoteImporterModel", name := "nearestWith", desc := "(III)I" } : Jvm.MethodName) prog_16_method_63_code (8 : Nat) (Option.some Jvm.ClassFile.FieldType.int)) ∈ lw_all := lw_g (lw_at lw_m14 110 rfl) rfl
theorem q3350 : (Jvm.Cond.methodLink "NoteImporterModel" (285 : Nat) ({ cls := "NoteImporterModel", name := "spread", desc := "(I)V" } : Jvm.MethodName)) ∈ lw_all := lw_g (lw_at lw_m14 111 rfl) rfl
theorem q3351 : (Jvm.Cond.privateMethod ({ cls := "NoteImporterModel", name := "spread", desc := "(I)V" } : Jvm.MethodName)) ∈ lw_tbl := lw_at lw_m14 112 rfl
theorem q3352 : (Jvm.Cond.instanceMethod ({ cls := "NoteImporterModel", name := "spread", desc := "(I)V" } : Jvm.MethodName)) ∈ lw_all := lw_g (lw_at lw_m14 113 rfl) rfl
theorem q3353 : (Jvm.Cond.code ({ cls := "NoteImporterModel", name := "spread", desc := "(I)V" } : Jvm.MethodName) prog_16_method_75_code (5 : Nat) (Option.none : Option Jvm.ClassFile.FieldType)) ∈ lw_all := lw_g (lw_at lw_m14 114 rfl) rfl
theorem q3354 : (Jvm.Cond.methodLink "NoteImporterModel" (282 : Nat) ({ cls := "NoteImporterModel", name := "alike", desc := "(II)Z" } : Jvm.MethodName)) ∈ lw_all := lw_g (lw_at lw_m14 115 rfl) rfl
theorem q3355 : (Jvm.Cond.privateMethod ({ cls := "NoteImporterModel", name := "alike", desc := "(II)Z" } : Jvm.MethodName)) ∈ lw_tbl := lw_at lw_m14 116 rfl
theorem q3356 : (Jvm.Cond.instanceMethod ({ cls := "NoteImporterModel", name := "alike", desc := "(II)Z" } : Jvm.MethodName)) ∈ lw_all := lw_g (lw_at lw_m14 117 rfl) rfl
theorem q3357 : (Jvm.Cond.code ({ cls := "NoteImporterModel", name := "alike", desc := "(II)Z" } : Jvm.MethodName) prog_16_method_73_code (9 : Nat) (Option.some Jvm.ClassFile.FieldType.boolean)) ∈ lw_all := lw_g (lw_at lw_m14 118 rfl) rfl
theorem q3358 : (Jvm.Cond.methodLink "NoteImporterModel" (215 : Nat) ({ cls := "java/lang/Math", name := "min", desc := "(II)I" } : Jvm.MethodName)) ∈ lw_all := lw_g (lw_at lw_m14 119 rfl) rfl
theorem q3359 : (Jvm.Cond.methodLink "NoteImporterModel" (279 : Nat) ({ cls := "NoteImporterModel", name := "haveLikeTexts", desc := "(II)Z" } : Jvm.MethodName)) ∈ lw_all := lw_g (lw_at lw_m14 120 rfl) rfl
theorem q3360 : (Jvm.Cond.privateMethod ({ cls := "NoteImporterModel", name := "haveLikeTexts", desc := "(II)Z" } : Jvm.MethodName)) ∈ lw_tbl := lw_at lw_m14 121 rfl
theorem q3361 : (Jvm.Cond.instanceMethod ({ cls := "NoteImporterModel", name := "haveLikeTexts", desc := "(II)Z" } : Jvm.MethodName)) ∈ lw_all := lw_g (lw_at lw_m14 122 rfl) rfl
theorem q3362 : (Jvm.Cond.code ({ cls := "NoteImporterModel", name := "haveLikeTexts", desc := "(II)Z" } : Jvm.MethodName) prog_16_method_72_code (5 : Nat) (Option.some Jvm.ClassFile.FieldType.boolean)) ∈ lw_all := lw_g (lw_at lw_m14 123 rfl) rfl
theorem q3363 : (Jvm.Cond.methodLink "NoteImporterModel" (275 : Nat) ({ cls := "NoteImporterModel", name := "differentWords", desc := "(IIZ)I" } : Jvm.MethodName)) ∈ lw_all := lw_g (lw_at lw_m14 124 rfl) rfl
theorem q3364 : (Jvm.Cond.privateMethod ({ cls := "NoteImporterModel", name := "differentWords", desc := "(IIZ)I" } : Jvm.MethodName)) ∈ lw_tbl := lw_at lw_m14 125 rfl
theorem q3365 : (Jvm.Cond.instanceMethod ({ cls := "NoteImporterModel", name := "differentWords", desc := "(IIZ)I" } : Jvm.MethodName)) ∈ lw_all := lw_g (lw_at lw_m14 126 rfl) rfl
theorem q3366 : (Jvm.Cond.code ({ cls := "NoteImporterModel", name := "differentWords", desc := "(IIZ)I" } : Jvm.MethodName) prog_16_method_71_code (7 : Nat) (Option.some Jvm.ClassFile.FieldType.int)) ∈ lw_all := lw_g (lw_at lw_m14 127 rfl) rfl
theorem q3367 : (Jvm.Cond.methodLink "NoteImporterModel" (268 : Nat) ({ cls := "NoteImporterModel", name := "isRepeated", desc := "(II)Z" } : Jvm.MethodName)) ∈ lw_all := lw_g (lw_at lw_m14 128 rfl) rfl
theorem q3368 : (Jvm.Cond.privateMethod ({ cls := "NoteImporterModel", name := "isRepeated", desc := "(II)Z" } : Jvm.MethodName)) ∈ lw_tbl := lw_at lw_m14 129 rfl
theorem q3369 : (Jvm.Cond.instanceMethod ({ cls := "NoteImporterModel", name := "isRepeated", desc := "(II)Z" } : Jvm.MethodName)) ∈ lw_all := lw_g (lw_at lw_m14 130 rfl) rfl
theorem q3370 : (Jvm.Cond.code ({ cls := "NoteImporterModel", name := "isRepeated", desc := "(II)Z" } : Jvm.MethodName) prog_16_method_70_code (5 : Nat) (Option.some Jvm.ClassFile.FieldType.boolean)) ∈ lw_all := lw_g (lw_at lw_m14 131 rfl) rfl
theorem q3371 : (Jvm.Cond.methodLink "NoteImporterModel" (265 : Nat) ({ cls := "NoteImporterModel", name := "saidBy", desc := "(II)J" } : Jvm.MethodName)) ∈ lw_all := lw_g (lw_at lw_m14 132 rfl) rfl
theorem q3372 : (Jvm.Cond.privateMethod ({ cls := "NoteImporterModel", name := "saidBy", desc := "(II)J" } : Jvm.MethodName)) ∈ lw_tbl := lw_at lw_m14 133 rfl
theorem q3373 : (Jvm.Cond.instanceMethod ({ cls := "NoteImporterModel", name := "saidBy", desc := "(II)J" } : Jvm.MethodName)) ∈ lw_all := lw_g (lw_at lw_m14 134 rfl) rfl
theorem q3374 : (Jvm.Cond.code ({ cls := "NoteImporterModel", name := "saidBy", desc := "(II)J" } : Jvm.MethodName) prog_16_method_20_code (3 : Nat) (Option.some Jvm.ClassFile.FieldType.long)) ∈ lw_all := lw_g (lw_at lw_m14 135 rfl) rfl
theorem q3375 : (Jvm.Cond.methodLink "NoteImporterModel" (271 : Nat) ({ cls := "NoteImporterModel", name := "says", desc := "(IJ)Z" } : Jvm.MethodName)) ∈ lw_all := lw_g (lw_at lw_m14 136 rfl) rfl
theorem q3376 : (Jvm.Cond.privateMethod ({ cls := "NoteImporterModel", name := "says", desc := "(IJ)Z" } : Jvm.MethodName)) ∈ lw_tbl := lw_at lw_m14 137 rfl
theorem q3377 : (Jvm.Cond.instanceMethod ({ cls := "NoteImporterModel", name := "says", desc := "(IJ)Z" } : Jvm.MethodName)) ∈ lw_all := lw_g (lw_at lw_m14 138 rfl) rfl
theorem q3378 : (Jvm.Cond.code ({ cls := "NoteImporterModel", name := "says", desc := "(IJ)Z" } : Jvm.MethodName) prog_16_method_69_code (6 : Nat) (Option.some Jvm.ClassFile.FieldType.boolean)) ∈ lw_all := lw_g (lw_at lw_m14 139 rfl) rfl
theorem q3379 : (Jvm.Cond.methodLink "NoteImporterModel" (288 : Nat) ({ cls := "NoteImporterModel", name := "join", desc := "(I)V" } : Jvm.MethodName)) ∈ lw_all := lw_g (lw_at lw_m14 140 rfl) rfl
theorem q3380 : (Jvm.Cond.privateMethod ({ cls := "NoteImporterModel", name := "join", desc := "(I)V" } : Jvm.MethodName)) ∈ lw_tbl := lw_at lw_m14 141 rfl
theorem q3381 : (Jvm.Cond.instanceMethod ({ cls := "NoteImporterModel", name := "join", desc := "(I)V" } : Jvm.MethodName)) ∈ lw_all := lw_g (lw_at lw_m14 142 rfl) rfl
theorem q3382 : (Jvm.Cond.code ({ cls := "NoteImporterModel", name := "join", desc := "(I)V" } : Jvm.MethodName) prog_16_method_76_code (4 : Nat) (Option.none : Option Jvm.ClassFile.FieldType)) ∈ lw_all := lw_g (lw_at lw_m14 143 rfl) rfl
theorem q3384 : (Jvm.Cond.instanceMethod ({ cls := "NoteImporterModel", name := "addEdition", desc := "(II)I" } : Jvm.MethodName)) ∈ lw_all := lw_g (lw_at lw_m14 145 rfl) rfl
theorem q3385 : (Jvm.Cond.selects "NoteImporterModel" ({ cls := "NoteImporterModel", name := "addEdition", desc := "(II)I" } : Jvm.MethodName) ({ cls := "NoteImporterModel", name := "addEdition", desc := "(II)I" } : Jvm.MethodName)) ∈ lw_all := lw_g (lw_at lw_m14 146 rfl) rfl
theorem q3386 : (Jvm.Cond.code ({ cls := "NoteImporterModel", name := "addEdition", desc := "(II)I" } : Jvm.MethodName) prog_16_method_35_code (5 : Nat) (Option.some Jvm.ClassFile.FieldType.int)) ∈ lw_all := lw_g (lw_at lw_m14 147 rfl) rfl
theorem q3387 : (Jvm.Cond.methodLink "NoteImporterModel" (167 : Nat) ({ cls := "NoteImporterModel", name := "isLayout", desc := "(II)Z" } : Jvm.MethodName)) ∈ lw_all := lw_g (lw_at lw_m14 148 rfl) rfl
theorem q3388 : (Jvm.Cond.static ({ cls := "NoteImporterModel", name := "isLayout", desc := "(II)Z" } : Jvm.MethodName)) ∈ lw_all := lw_g (lw_at lw_m14 149 rfl) rfl
theorem q3389 : (Jvm.Cond.code ({ cls := "NoteImporterModel", name := "isLayout", desc := "(II)Z" } : Jvm.MethodName) prog_16_method_32_code (2 : Nat) (Option.some Jvm.ClassFile.FieldType.boolean)) ∈ lw_all := lw_g (lw_at lw_m14 150 rfl) rfl
theorem q3390 : (Jvm.Cond.methodLink "NoteImporterModel" (171 : Nat) ({ cls := "NoteImporterModel", name := "hasWords", desc := "(II)Z" } : Jvm.MethodName)) ∈ lw_all := lw_g (lw_at lw_m14 151 rfl) rfl
theorem q3391 : (Jvm.Cond.privateMethod ({ cls := "NoteImporterModel", name := "hasWords", desc := "(II)Z" } : Jvm.MethodName)) ∈ lw_tbl := lw_at lw_m14 152 rfl
theorem q3392 : (Jvm.Cond.instanceMethod ({ cls := "NoteImporterModel", name := "hasWords", desc := "(II)Z" } : Jvm.MethodName)) ∈ lw_all := lw_g (lw_at lw_m14 153 rfl) rfl
theorem q3393 : (Jvm.Cond.code ({ cls := "NoteImporterModel", name := "hasWords", desc := "(II)Z" } : Jvm.MethodName) prog_16_method_30_code (8 : Nat) (Option.some Jvm.ClassFile.FieldType.boolean)) ∈ lw_all := lw_g (lw_at lw_m14 154 rfl) rfl
theorem q3394 : (Jvm.Cond.methodLink "NoteImporterModel" (147 : Nat) ({ cls := "NoteImporterModel", name := "byteAt", desc := "(I)I" } : Jvm.MethodName)) ∈ lw_all := lw_g (lw_at lw_m14 155 rfl) rfl
theorem q3395 : (Jvm.Cond.privateMethod ({ cls := "NoteImporterModel", name := "byteAt", desc := "(I)I" } : Jvm.MethodName)) ∈ lw_tbl := lw_at lw_m14 156 rfl
theorem q3396 : (Jvm.Cond.instanceMethod ({ cls := "NoteImporterModel", name := "byteAt", desc := "(I)I" } : Jvm.MethodName)) ∈ lw_all := lw_g (lw_at lw_m14 157 rfl) rfl
theorem q3397 : (Jvm.Cond.code ({ cls := "NoteImporterModel", name := "byteAt", desc := "(I)I" } : Jvm.MethodName) prog_16_method_26_code (2 : Nat) (Option.some Jvm.ClassFile.FieldType.int)) ∈ lw_all := lw_g (lw_at lw_m14 158 rfl) rfl
theorem q3398 : (Jvm.Cond.methodLink "NoteImporterModel" (150 : Nat) ({ cls := "NoteImporterModel", name := "isLetter", desc := "(I)Z" } : Jvm.MethodName)) ∈ lw_all := lw_g (lw_at lw_m14 159 rfl) rfl
theorem q3399 : (Jvm.Cond.static ({ cls := "NoteImporterModel", name := "isLetter", desc := "(I)Z" } : Jvm.MethodName)) ∈ lw_all := lw_g (lw_at lw_m14 160 rfl) rfl
theorem q3400 : (Jvm.Cond.code ({ cls := "NoteImporterModel", name := "isLetter", desc := "(I)Z" } : Jvm.MethodName) prog_16_method_27_code (1 : Nat) (Option.some Jvm.ClassFile.FieldType.boolean)) ∈ lw_all := lw_g (lw_at lw_m14 161 rfl) rfl
theorem q3401 : (Jvm.Cond.constantLong "NoteImporterModel" (132 : Nat) (27 : Int64)) ∈ lw_all := lw_g (lw_at lw_m14 162 rfl) rfl
theorem q3402 : (Jvm.Cond.constantLong "NoteImporterModel" (153 : Nat) (96 : Int64)) ∈ lw_all := lw_g (lw_at lw_m14 163 rfl) rfl
theorem q3403 : (Jvm.Cond.methodLink "NoteImporterModel" (155 : Nat) ({ cls := "NoteImporterModel", name := "isBlank", desc := "(I)Z" } : Jvm.MethodName)) ∈ lw_all := lw_g (lw_at lw_m14 164 rfl) rfl
theorem q3404 : (Jvm.Cond.static ({ cls := "NoteImporterModel", name := "isBlank", desc := "(I)Z" } : Jvm.MethodName)) ∈ lw_all := lw_g (lw_at lw_m14 165 rfl) rfl
theorem q3405 : (Jvm.Cond.code ({ cls := "NoteImporterModel", name := "isBlank", desc := "(I)Z" } : Jvm.MethodName) prog_16_method_29_code (1 : Nat) (Option.some Jvm.ClassFile.FieldType.boolean)) ∈ lw_all := lw_g (lw_at lw_m14 166 rfl) rfl
theorem q3406 : (Jvm.Cond.methodLink "NoteImporterModel" (174 : Nat) ({ cls := "NoteImporterModel", name := "beginEdition", desc := "(II)I" } : Jvm.MethodName)) ∈ lw_all := lw_g (lw_at lw_m14 167 rfl) rfl
theorem q3407 : (Jvm.Cond.privateMethod ({ cls := "NoteImporterModel", name := "beginEdition", desc := "(II)I" } : Jvm.MethodName)) ∈ lw_tbl := lw_at lw_m14 168 rfl
theorem q3408 : (Jvm.Cond.instanceMethod ({ cls := "NoteImporterModel", name := "beginEdition", desc := "(II)I" } : Jvm.MethodName)) ∈ lw_all := lw_g (lw_at lw_m14 169 rfl) rfl
theorem q3409 : (Jvm.Cond.code ({ cls := "NoteImporterModel", name := "beginEdition", desc := "(II)I" } : Jvm.MethodName) prog_16_method_33_code (5 : Nat) (Option.some Jvm.ClassFile.FieldType.int)) ∈ lw_all := lw_g (lw_at lw_m14 170 rfl) rfl
theorem q3410 : (Jvm.Cond.methodLink "NoteImporterModel" (177 : Nat) ({ cls := "NoteImporterModel", name := "appendWord", desc := "(IJZ)V" } : Jvm.MethodName)) ∈ lw_all := lw_g (lw_at lw_m14 171 rfl) rfl
theorem q3411 : (Jvm.Cond.privateMethod ({ cls := "NoteImporterModel", name := "appendWord", desc := "(IJZ)V" } : Jvm.MethodName)) ∈ lw_tbl := lw_at lw_m14 172 rfl
theorem q3412 : (Jvm.Cond.instanceMethod ({ cls := "NoteImporterModel", name := "appendWord", desc := "(IJZ)V" } : Jvm.MethodName)) ∈ lw_all := lw_g (lw_at lw_m14 173 rfl) rfl
theorem q3413 : (Jvm.Cond.code ({ cls := "NoteImporterModel", name := "appendWord", desc := "(IJZ)V" } : Jvm.MethodName) prog_16_method_34_code (6 : Nat) (Option.none : Option Jvm.ClassFile.FieldType)) ∈ lw_all := lw_g (lw_at lw_m14 174 rfl) rfl
theorem q3415 : (Jvm.Cond.instanceMethod ({ cls := "NoteImporterModel", name := "setLayout", desc := "(III)I" } : Jvm.MethodName)) ∈ lw_all := lw_g (lw_at lw_m14 176 rfl) rfl
theorem q3416 : (Jvm.Cond.selects "NoteImporterModel" ({ cls := "NoteImporterModel", name := "setLayout", desc := "(III)I" } : Jvm.MethodName) ({ cls := "NoteImporterModel", name := "setLayout", desc := "(III)I" } : Jvm.MethodName)) ∈ lw_all := lw_g (lw_at lw_m14 177 rfl) rfl
theorem q3417 : (Jvm.Cond.code ({ cls := "NoteImporterModel", name := "setLayout", desc := "(III)I" } : Jvm.MethodName) prog_16_method_39_code (4 : Nat) (Option.some Jvm.ClassFile.FieldType.int)) ∈ lw_all := lw_g (lw_at lw_m14 178 rfl) rfl
theorem q3418 : (Jvm.Cond.methodLink "NoteImporterModel" (115 : Nat) ({ cls := "NoteImporterModel", name := "isEdition", desc := "(I)Z" } : Jvm.MethodName)) ∈ lw_all := lw_g (lw_at lw_m14 179 rfl) rfl
theorem q3419 : (Jvm.Cond.privateMethod ({ cls := "NoteImporterModel", name := "isEdition", desc := "(I)Z" } : Jvm.MethodName)) ∈ lw_tbl := lw_at lw_m14 180 rfl
theorem q3420 : (Jvm.Cond.instanceMethod ({ cls := "NoteImporterModel", name := "isEdition", desc := "(I)Z" } : Jvm.MethodName)) ∈ lw_all := lw_g (lw_at lw_m14 181 rfl) rfl
theorem q3421 : (Jvm.Cond.code ({ cls := "NoteImporterModel", name := "isEdition", desc := "(I)Z" } : Jvm.MethodName) prog_16_method_14_code (2 : Nat) (Option.some Jvm.ClassFile.FieldType.boolean)) ∈ lw_all := lw_g (lw_at lw_m14 182 rfl) rfl
theorem q3422 : (Jvm.Cond.methodLink "NoteImporterModel" (191 : Nat) ({ cls := "NoteImporterModel", name := "layOut", desc := "(I)V" } : Jvm.MethodName)) ∈ lw_all := lw_g (lw_at lw_m14 183 rfl) rfl
theorem q3423 : (Jvm.Cond.privateMethod ({ cls := "NoteImporterModel", name := "layOut", desc := "(I)V" } : Jvm.MethodName)) ∈ lw_tbl := lw_at lw_m14 184 rfl
theorem q3424 : (Jvm.Cond.instanceMethod ({ cls := "NoteImporterModel", name := "layOut", desc := "(I)V" } : Jvm.MethodName)) ∈ lw_all := lw_g (lw_at lw_m14 185 rfl) rfl
theorem q3425 : (Jvm.Cond.code ({ cls := "NoteImporterModel", name := "layOut", desc := "(I)V" } : Jvm.MethodName) prog_16_method_36_code (7 : Nat) (Option.none : Option Jvm.ClassFile.FieldType)) ∈ lw_all := lw_g (lw_at lw_m14 186 rfl) rfl
theorem q3426 : (Jvm.Cond.methodLink "NoteImporterModel" (134 : Nat) ({ cls := "NoteImporterModel", name := "lettersOf", desc := "(J)I" } : Jvm.MethodName)) ∈ lw_all := lw_g (lw_at lw_m14 187 rfl) rfl
theorem q3427 : (Jvm.Cond.static ({ cls := "NoteImporterModel", name := "lettersOf", desc := "(J)I" } : Jvm.MethodName)) ∈ lw_all := lw_g (lw_at lw_m14 188 rfl) rfl
theorem q3428 : (Jvm.Cond.code ({ cls := "NoteImporterModel", name := "lettersOf", desc := "(J)I" } : Jvm.MethodName) prog_16_method_22_code (5 : Nat) (Option.some Jvm.ClassFile.FieldType.int)) ∈ lw_all := lw_g (lw_at lw_m14 189 rfl) rfl
theorem q3429 : (Jvm.Cond.methodLink "NoteImporterModel" (185 : Nat) ({ cls := "NoteImporterModel", name := "beginsParagraph", desc := "(II)Z" } : Jvm.MethodName)) ∈ lw_all := lw_g (lw_at lw_m14 190 rfl) rfl
theorem q3430 : (Jvm.Cond.privateMethod ({ cls := "NoteImporterModel", name := "beginsParagraph", desc := "(II)Z" } : Jvm.MethodName)) ∈ lw_tbl := lw_at lw_m14 191 rfl
theorem q3431 : (Jvm.Cond.instanceMethod ({ cls := "NoteImporterModel", name := "beginsParagraph", desc := "(II)Z" } : Jvm.MethodName)) ∈ lw_all := lw_g (lw_at lw_m14 192 rfl) rfl
theorem q3432 : (Jvm.Cond.code ({ cls := "NoteImporterModel", name := "beginsParagraph", desc := "(II)Z" } : Jvm.MethodName) prog_16_method_21_code (3 : Nat) (Option.some Jvm.ClassFile.FieldType.boolean)) ∈ lw_all := lw_g (lw_at lw_m14 193 rfl) rfl
theorem q3433 : (Jvm.Cond.methodLink "NoteImporterModel" (195 : Nat) ({ cls := "NoteImporterModel", name := "pagesOf", desc := "(I)I" } : Jvm.MethodName)) ∈ lw_all := lw_g (lw_at lw_m14 194 rfl) rfl
theorem q3434 : (Jvm.Cond.privateMethod ({ cls := "NoteImporterModel", name := "pagesOf", desc := "(I)I" } : Jvm.MethodName)) ∈ lw_tbl := lw_at lw_m14 195 rfl
theorem q3435 : (Jvm.Cond.instanceMethod ({ cls := "NoteImporterModel", name := "pagesOf", desc := "(I)I" } : Jvm.MethodName)) ∈ lw_all := lw_g (lw_at lw_m14 196 rfl) rfl
theorem q3436 : (Jvm.Cond.code ({ cls := "NoteImporterModel", name := "pagesOf", desc := "(I)I" } : Jvm.MethodName) prog_16_method_38_code (2 : Nat) (Option.some Jvm.ClassFile.FieldType.int)) ∈ lw_all := lw_g (lw_at lw_m14 197 rfl) rfl
theorem q3437 : (Jvm.Cond.methodLink "NoteImporterModel" (188 : Nat) ({ cls := "NoteImporterModel", name := "linesOf", desc := "(I)I" } : Jvm.MethodName)) ∈ lw_all := lw_g (lw_at lw_m14 198 rfl) rfl
theorem q3438 : (Jvm.Cond.privateMethod ({ cls := "NoteImporterModel", name := "linesOf", desc := "(I)I" } : Jvm.MethodName)) ∈ lw_tbl := lw_at lw_m14 199 rfl
theorem q3439 : (Jvm.Cond.instanceMethod ({ cls := "NoteImporterModel", name := "linesOf", desc := "(I)I" } : Jvm.MethodName)) ∈ lw_all := lw_g (lw_at lw_m14 200 rfl) rfl
theorem q3440 : (Jvm.Cond.code ({ cls := "NoteImporterModel", name := "linesOf", desc := "(I)I" } : Jvm.MethodName) prog_16_method_37_code (2 : Nat) (Option.some Jvm.ClassFile.FieldType.int)) ∈ lw_all := lw_g (lw_at lw_m14 201 rfl) rfl
theorem q3442 : (Jvm.Cond.instanceMethod ({ cls := "NoteImporterModel", name := "edition", desc := "(II)I" } : Jvm.MethodName)) ∈ lw_all := lw_g (lw_at lw_m14 203 rfl) rfl
theorem q3443 : (Jvm.Cond.selects "NoteImporterModel" ({ cls := "NoteImporterModel", name := "edition", desc := "(II)I" } : Jvm.MethodName) ({ cls := "NoteImporterModel", name := "edition", desc := "(II)I" } : Jvm.MethodName)) ∈ lw_all := lw_g (lw_at lw_m14 204 rfl) rfl
theorem q3444 : (Jvm.Cond.code ({ cls := "NoteImporterModel", name := "edition", desc := "(II)I" } : Jvm.MethodName) prog_16_method_40_code (3 : Nat) (Option.some Jvm.ClassFile.FieldType.int)) ∈ lw_all := lw_g (lw_at lw_m14 205 rfl) rfl
theorem q3446 : (Jvm.Cond.instanceMethod ({ cls := "NoteImporterModel", name := "word", desc := "(III)I" } : Jvm.MethodName)) ∈ lw_all := lw_g (lw_at lw_m14 207 rfl) rfl
theorem q3447 : (Jvm.Cond.selects "NoteImporterModel" ({ cls := "NoteImporterModel", name := "word", desc := "(III)I" } : Jvm.MethodName) ({ cls := "NoteImporterModel", name := "word", desc := "(III)I" } : Jvm.MethodName)) ∈ lw_all := lw_g (lw_at lw_m14 208 rfl) rfl
theorem q3448 : (Jvm.Cond.code ({ cls := "NoteImporterModel", name := "word", desc := "(III)I" } : Jvm.MethodName) prog_16_method_41_code (4 : Nat) (Option.some Jvm.ClassFile.FieldType.int)) ∈ lw_all := lw_g (lw_at lw_m14 209 rfl) rfl
theorem q3449 : (Jvm.Cond.methodLink "NoteImporterModel" (198 : Nat) ({ cls := "NoteImporterModel", name := "isWordOf", desc := "(II)Z" } : Jvm.MethodName)) ∈ lw_all := lw_g (lw_at lw_m14 210 rfl) rfl
theorem q3450 : (Jvm.Cond.privateMethod ({ cls := "NoteImporterModel", name := "isWordOf", desc := "(II)Z" } : Jvm.MethodName)) ∈ lw_tbl := lw_at lw_m14 211 rfl
theorem q3451 : (Jvm.Cond.instanceMethod ({ cls := "NoteImporterModel", name := "isWordOf", desc := "(II)Z" } : Jvm.MethodName)) ∈ lw_all := lw_g (lw_at lw_m14 212 rfl) rfl
theorem q3452 : (Jvm.Cond.code ({ cls := "NoteImporterModel", name := "isWordOf", desc := "(II)Z" } : Jvm.MethodName) prog_16_method_15_code (3 : Nat) (Option.some Jvm.ClassFile.FieldType.boolean)) ∈ lw_all := lw_g (lw_at lw_m14 213 rfl) rfl
theorem q3454 : (Jvm.Cond.instanceMethod ({ cls := "NoteImporterModel", name := "letter", desc := "(III)I" } : Jvm.MethodName)) ∈ lw_all := lw_g (lw_at lw_m14 215 rfl) rfl
theorem q3455 : (Jvm.Cond.selects "NoteImporterModel" ({ cls := "NoteImporterModel", name := "letter", desc := "(III)I" } : Jvm.MethodName) ({ cls := "NoteImporterModel", name := "letter", desc := "(III)I" } : Jvm.MethodName)) ∈ lw_all := lw_g (lw_at lw_m14 216 rfl) rfl
theorem q3456 : (Jvm.Cond.code ({ cls := "NoteImporterModel", name := "letter", desc := "(III)I" } : Jvm.MethodName) prog_16_method_42_code (4 : Nat) (Option.some Jvm.ClassFile.FieldType.int)) ∈ lw_all := lw_g (lw_at lw_m14 217 rfl) rfl
theorem q3457 : (Jvm.Cond.methodLink "NoteImporterModel" (201 : Nat) ({ cls := "NoteImporterModel", name := "letterOf", desc := "(JI)I" } : Jvm.MethodName)) ∈ lw_all := lw_g (lw_at lw_m14 218 rfl) rfl
theorem q3458 : (Jvm.Cond.static ({ cls := "NoteImporterModel", name := "letterOf", desc := "(JI)I" } : Jvm.MethodName)) ∈ lw_all := lw_g (lw_at lw_m14 219 rfl) rfl
theorem q3459 : (Jvm.Cond.code ({ cls := "NoteImporterModel", name := "letterOf", desc := "(JI)I" } : Jvm.MethodName) prog_16_method_23_code (6 : Nat) (Option.some Jvm.ClassFile.FieldType.int)) ∈ lw_all := lw_g (lw_at lw_m14 220 rfl) rfl
theorem q3461 : (Jvm.Cond.instanceMethod ({ cls := "NoteImporterModel", name := "insertWord", desc := "(II)I" } : Jvm.MethodName)) ∈ lw_all := lw_g (lw_at lw_m14 222 rfl) rfl
theorem q3462 : (Jvm.Cond.selects "NoteImporterModel" ({ cls := "NoteImporterModel", name := "insertWord", desc := "(II)I" } : Jvm.MethodName) ({ cls := "NoteImporterModel", name := "insertWord", desc := "(II)I" } : Jvm.MethodName)) ∈ lw_all := lw_g (lw_at lw_m14 223 rfl) rfl
theorem q3463 : (Jvm.Cond.code ({ cls := "NoteImporterModel", name := "insertWord", desc := "(II)I" } : Jvm.MethodName) prog_16_method_45_code (3 : Nat) (Option.some Jvm.ClassFile.FieldType.int)) ∈ lw_all := lw_g (lw_at lw_m14 224 rfl) rfl
theorem q3464 : (Jvm.Cond.methodLink "NoteImporterModel" (208 : Nat) ({ cls := "NoteImporterModel", name := "openPlace", desc := "(II)V" } : Jvm.MethodName)) ∈ lw_all := lw_g (lw_at lw_m14 225 rfl) rfl
theorem q3465 : (Jvm.Cond.privateMethod ({ cls := "NoteImporterModel", name := "openPlace", desc := "(II)V" } : Jvm.MethodName)) ∈ lw_tbl := lw_at lw_m14 226 rfl
theorem q3466 : (Jvm.Cond.instanceMethod ({ cls := "NoteImporterModel", name := "openPlace", desc := "(II)V" } : Jvm.MethodName)) ∈ lw_all := lw_g (lw_at lw_m14 227 rfl) rfl
theorem q3467 : (Jvm.Cond.code ({ cls := "NoteImporterModel", name := "openPlace", desc := "(II)V" } : Jvm.MethodName) prog_16_method_44_code (4 : Nat) (Option.none : Option Jvm.ClassFile.FieldType)) ∈ lw_all := lw_g (lw_at lw_m14 228 rfl) rfl
theorem q3468 : (Jvm.Cond.methodLink "NoteImporterModel" (212 : Nat) ({ cls := "NoteImporterModel", name := "followInsertion", desc := "(II)V" } : Jvm.MethodName)) ∈ lw_all := lw_g (lw_at lw_m14 229 rfl) rfl
theorem q3469 : (Jvm.Cond.privateMethod ({ cls := "NoteImporterModel", name := "followInsertion", desc := "(II)V" } : Jvm.MethodName)) ∈ lw_tbl := lw_at lw_m14 230 rfl
theorem q3470 : (Jvm.Cond.instanceMethod ({ cls := "NoteImporterModel", name := "followInsertion", desc := "(II)V" } : Jvm.MethodName)) ∈ lw_all := lw_g (lw_at lw_m14 231 rfl) rfl
theorem q3471 : (Jvm.Cond.code ({ cls := "NoteImporterModel", name := "followInsertion", desc := "(II)V" } : Jvm.MethodName) prog_16_method_43_code (4 : Nat) (Option.none : Option Jvm.ClassFile.FieldType)) ∈ lw_all := lw_g (lw_at lw_m14 232 rfl) rfl
theorem q3473 : (Jvm.Cond.instanceMethod ({ cls := "NoteImporterModel", name := "deleteWord", desc := "(II)I" } : Jvm.MethodName)) ∈ lw_all := lw_g (lw_at lw_m14 234 rfl) rfl
theorem q3474 : (Jvm.Cond.selects "NoteImporterModel" ({ cls := "NoteImporterModel", name := "deleteWord", desc := "(II)I" } : Jvm.MethodName) ({ cls := "NoteImporterModel", name := "deleteWord", desc := "(II)I" } : Jvm.MethodName)) ∈ lw_all := lw_g (lw_at lw_m14 235 rfl) rfl
theorem q3475 : (Jvm.Cond.code ({ cls := "NoteImporterModel", name := "deleteWord", desc := "(II)I" } : Jvm.MethodName) prog_16_method_47_code (4 : Nat) (Option.some Jvm.ClassFile.FieldType.int)) ∈ lw_all := lw_g (lw_at lw_m14 236 rfl) rfl
theorem q3476 : (Jvm.Cond.methodLink "NoteImporterModel" (220 : Nat) ({ cls := "NoteImporterModel", name := "followDeletion", desc := "(II)V" } : Jvm.MethodName)) ∈ lw_all := lw_g (lw_at lw_m14 237 rfl) rfl
theorem q3477 : (Jvm.Cond.privateMethod ({ cls := "NoteImporterModel", name := "followDeletion", desc := "(II)V" } : Jvm.MethodName)) ∈ lw_tbl := lw_at lw_m14 238 rfl
theorem q3478 : (Jvm.Cond.instanceMethod ({ cls := "NoteImporterModel", name := "followDeletion", desc := "(II)V" } : Jvm.MethodName)) ∈ lw_all := lw_g (lw_at lw_m14 239 rfl) rfl
theorem q3479 : (Jvm.Cond.code ({ cls := "NoteImporterModel", name := "followDeletion", desc := "(II)V" } : Jvm.MethodName) prog_16_method_46_code (8 : Nat) (Option.none : Option Jvm.ClassFile.FieldType)) ∈ lw_all := lw_g (lw_at lw_m15 0 rfl) rfl
theorem q3481 : (Jvm.Cond.instanceMethod ({ cls := "NoteImporterModel", name := "setParagraph", desc := "(IIZ)Z" } : Jvm.MethodName)) ∈ lw_all := lw_g (lw_at lw_m15 2 rfl) rfl
theorem q3482 : (Jvm.Cond.selects "NoteImporterModel" ({ cls := "NoteImporterModel", name := "setParagraph", desc := "(IIZ)Z" } : Jvm.MethodName) ({ cls := "NoteImporterModel", name := "setParagraph", desc := "(IIZ)Z" } : Jvm.MethodName)) ∈ lw_all := lw_g (lw_at lw_m15 3 rfl) rfl
theorem q3483 : (Jvm.Cond.code ({ cls := "NoteImporterModel", name := "setParagraph", desc := "(IIZ)Z" } : Jvm.MethodName) prog_16_method_48_code (5 : Nat) (Option.some Jvm.ClassFile.FieldType.boolean)) ∈ lw_all := lw_g (lw_at lw_m15 4 rfl) rfl
theorem q3485 : (Jvm.Cond.instanceMethod ({ cls := "NoteImporterModel", name := "setTarget", desc := "(I)I" } : Jvm.MethodName)) ∈ lw_all := lw_g (lw_at lw_m15 6 rfl) rfl
theorem q3486 : (Jvm.Cond.selects "NoteImporterModel" ({ cls := "NoteImporterModel", name := "setTarget", desc := "(I)I" } : Jvm.MethodName) ({ cls := "NoteImporterModel", name := "setTarget", desc := "(I)I" } : Jvm.MethodName)) ∈ lw_all := lw_g (lw_at lw_m15 7 rfl) rfl
theorem q3487 : (Jvm.Cond.code ({ cls := "NoteImporterModel", name := "setTarget", desc := "(I)I" } : Jvm.MethodName) prog_16_method_49_code (3 : Nat) (Option.some Jvm.ClassFile.FieldType.int)) ∈ lw_all := lw_g (lw_at lw_m15 8 rfl) rfl
theorem q3489 : (Jvm.Cond.instanceMethod ({ cls := "NoteImporterModel", name := "addReader", desc := "()I" } : Jvm.MethodName)) ∈ lw_all := lw_g (lw_at lw_m15 10 rfl) rfl
theorem q3490 : (Jvm.Cond.selects "NoteImporterModel" ({ cls := "NoteImporterModel", name := "addReader", desc := "()I" } : Jvm.MethodName) ({ cls := "NoteImporterModel", name := "addReader", desc := "()I" } : Jvm.MethodName)) ∈ lw_all := lw_g (lw_at lw_m15 11 rfl) rfl
theorem q3491 : (Jvm.Cond.code ({ cls := "NoteImporterModel", name := "addReader", desc := "()I" } : Jvm.MethodName) prog_16_method_52_code (1 : Nat) (Option.some Jvm.ClassFile.FieldType.int)) ∈ lw_all := lw_g (lw_at lw_m15 12 rfl) rfl
theorem q3492 : (Jvm.Cond.methodLink "NoteImporterModel" (223 : Nat) ({ cls := "NoteImporterModel", name := "readerNamed", desc := "(J)I" } : Jvm.MethodName)) ∈ lw_all := lw_g (lw_at lw_m15 13 rfl) rfl
theorem q3493 : (Jvm.Cond.privateMethod ({ cls := "NoteImporterModel", name := "readerNamed", desc := "(J)I" } : Jvm.MethodName)) ∈ lw_tbl := lw_at lw_m15 14 rfl
theorem q3494 : (Jvm.Cond.instanceMethod ({ cls := "NoteImporterModel", name := "readerNamed", desc := "(J)I" } : Jvm.MethodName)) ∈ lw_all := lw_g (lw_at lw_m15 15 rfl) rfl
theorem q3495 : (Jvm.Cond.code ({ cls := "NoteImporterModel", name := "readerNamed", desc := "(J)I" } : Jvm.MethodName) prog_16_method_50_code (4 : Nat) (Option.some Jvm.ClassFile.FieldType.int)) ∈ lw_all := lw_g (lw_at lw_m15 16 rfl) rfl
theorem q3496 : (Jvm.Cond.methodLink "NoteImporterModel" (123 : Nat) ({ cls := "NoteImporterModel", name := "readers", desc := "()I" } : Jvm.MethodName)) ∈ lw_all := lw_g (lw_at lw_m15 17 rfl) rfl
theorem q3497 : (Jvm.Cond.privateMethod ({ cls := "NoteImporterModel", name := "readers", desc := "()I" } : Jvm.MethodName)) ∈ lw_tbl := lw_at lw_m15 18 rfl
theorem q3498 : (Jvm.Cond.instanceMethod ({ cls := "NoteImporterModel", name := "readers", desc := "()I" } : Jvm.MethodName)) ∈ lw_all := lw_g (lw_at lw_m15 19 rfl) rfl
theorem q3499 : (Jvm.Cond.code ({ cls := "NoteImporterModel", name := "readers", desc := "()I" } : Jvm.MethodName) prog_16_method_8_code (1 : Nat) (Option.some Jvm.ClassFile.FieldType.int)) ∈ lw_all := lw_g (lw_at lw_m15 20 rfl) rfl
theorem q3500 : (Jvm.Cond.methodLink "NoteImporterModel" (226 : Nat) ({ cls := "NoteImporterModel", name := "appendReader", desc := "(J)I" } : Jvm.MethodName)) ∈ lw_all := lw_g (lw_at lw_m15 21 rfl) rfl
theorem q3501 : (Jvm.Cond.privateMethod ({ cls := "NoteImporterModel", name := "appendReader", desc := "(J)I" } : Jvm.MethodName)) ∈ lw_tbl := lw_at lw_m15 22 rfl
theorem q3502 : (Jvm.Cond.instanceMethod ({ cls := "NoteImporterModel", name := "appendReader", desc := "(J)I" } : Jvm.MethodName)) ∈ lw_all := lw_g (lw_at lw_m15 23 rfl) rfl
theorem q3503 : (Jvm.Cond.code ({ cls := "NoteImporterModel", name := "appendReader", desc := "(J)I" } : Jvm.MethodName) prog_16_method_51_code (3 : Nat) (Option.some Jvm.ClassFile.FieldType.int)) ∈ lw_all := lw_g (lw_at lw_m15 24 rfl) rfl
theorem q3505 : (Jvm.Cond.instanceMethod ({ cls := "NoteImporterModel", name := "addNote", desc := "(IIIII)I" } : Jvm.MethodName)) ∈ lw_all := lw_g (lw_at lw_m15 26 rfl) rfl
theorem q3506 : (Jvm.Cond.selects "NoteImporterModel" ({ cls := "NoteImporterModel", name := "addNote", desc := "(IIIII)I" } : Jvm.MethodName) ({ cls := "NoteImporterModel", name := "addNote", desc := "(IIIII)I" } : Jvm.MethodName)) ∈ lw_all := lw_g (lw_at lw_m15 27 rfl) rfl
theorem q3507 : (Jvm.Cond.code ({ cls := "NoteImporterModel", name := "addNote", desc := "(IIIII)I" } : Jvm.MethodName) prog_16_method_55_code (8 : Nat) (Option.some Jvm.ClassFile.FieldType.int)) ∈ lw_all := lw_g (lw_at lw_m15 28 rfl) rfl
theorem q3508 : (Jvm.Cond.methodLink "NoteImporterModel" (229 : Nat) ({ cls := "NoteImporterModel", name := "isReader", desc := "(I)Z" } : Jvm.MethodName)) ∈ lw_all := lw_g (lw_at lw_m15 29 rfl) rfl
theorem q3509 : (Jvm.Cond.privateMethod ({ cls := "NoteImporterModel", name := "isReader", desc := "(I)Z" } : Jvm.MethodName)) ∈ lw_tbl := lw_at lw_m15 30 rfl
theorem q3510 : (Jvm.Cond.instanceMethod ({ cls := "NoteImporterModel", name := "isReader", desc := "(I)Z" } : Jvm.MethodName)) ∈ lw_all := lw_g (lw_at lw_m15 31 rfl) rfl
theorem q3511 : (Jvm.Cond.code ({ cls := "NoteImporterModel", name := "isReader", desc := "(I)Z" } : Jvm.MethodName) prog_16_method_16_code (2 : Nat) (Option.some Jvm.ClassFile.FieldType.boolean)) ∈ lw_all := lw_g (lw_at lw_m15 32 rfl) rfl
theorem q3512 : (Jvm.Cond.methodLink "NoteImporterModel" (232 : Nat) ({ cls := "NoteImporterModel", name := "appendNote", desc := "(IIIII)I" } : Jvm.MethodName)) ∈ lw_all := lw_g (lw_at lw_m15 33 rfl) rfl
theorem q3513 : (Jvm.Cond.privateMethod ({ cls := "NoteImporterModel", name := "appendNote", desc := "(IIIII)I" } : Jvm.MethodName)) ∈ lw_tbl := lw_at lw_m15 34 rfl
theorem q3514 : (Jvm.Cond.instanceMethod ({ cls := "NoteImporterModel", name := "appendNote", desc := "(IIIII)I" } : Jvm.MethodName)) ∈ lw_all := lw_g (lw_at lw_m15 35 rfl) rfl
theorem q3515 : (Jvm.Cond.code ({ cls := "NoteImporterModel", name := "appendNote", desc := "(IIIII)I" } : Jvm.MethodName) prog_16_method_53_code (7 : Nat) (Option.some Jvm.ClassFile.FieldType.int)) ∈ lw_all := lw_g (lw_at lw_m15 36 rfl) rfl
theorem q3516 : (Jvm.Cond.methodLink "NoteImporterModel" (236 : Nat) ({ cls := "NoteImporterModel", name := "say", desc := "(IJ)V" } : Jvm.MethodName)) ∈ lw_all := lw_g (lw_at lw_m15 37 rfl) rfl
theorem q3517 : (Jvm.Cond.privateMethod ({ cls := "NoteImporterModel", name := "say", desc := "(IJ)V" } : Jvm.MethodName)) ∈ lw_tbl := lw_at lw_m15 38 rfl
theorem q3518 : (Jvm.Cond.instanceMethod ({ cls := "NoteImporterModel", name := "say", desc := "(IJ)V" } : Jvm.MethodName)) ∈ lw_all := lw_g (lw_at lw_m15 39 rfl) rfl
theorem q3519 : (Jvm.Cond.code ({ cls := "NoteImporterModel", name := "say", desc := "(IJ)V" } : Jvm.MethodName) prog_16_method_54_code (4 : Nat) (Option.none : Option Jvm.ClassFile.FieldType)) ∈ lw_all := lw_g (lw_at lw_m15 40 rfl) rfl
theorem q3521 : (Jvm.Cond.instanceMethod ({ cls := "NoteImporterModel", name := "note", desc := "(II)I" } : Jvm.MethodName)) ∈ lw_all := lw_g (lw_at lw_m15 42 rfl) rfl
theorem q3522 : (Jvm.Cond.selects "NoteImporterModel" ({ cls := "NoteImporterModel", name := "note", desc := "(II)I" } : Jvm.MethodName) ({ cls := "NoteImporterModel", name := "note", desc := "(II)I" } : Jvm.MethodName)) ∈ lw_all := lw_g (lw_at lw_m15 43 rfl) rfl
theorem q3523 : (Jvm.Cond.code ({ cls := "NoteImporterModel", name := "note", desc := "(II)I" } : Jvm.MethodName) prog_16_method_56_code (3 : Nat) (Option.some Jvm.ClassFile.FieldType.int)) ∈ lw_all := lw_g (lw_at lw_m15 44 rfl) rfl
theorem q3524 : (Jvm.Cond.methodLink "NoteImporterModel" (240 : Nat) ({ cls := "NoteImporterModel", name := "isNote", desc := "(I)Z" } : Jvm.MethodName)) ∈ lw_all := lw_g (lw_at lw_m15 45 rfl) rfl
theorem q3525 : (Jvm.Cond.privateMethod ({ cls := "NoteImporterModel", name := "isNote", desc := "(I)Z" } : Jvm.MethodName)) ∈ lw_tbl := lw_at lw_m15 46 rfl
theorem q3526 : (Jvm.Cond.instanceMethod ({ cls := "NoteImporterModel", name := "isNote", desc := "(I)Z" } : Jvm.MethodName)) ∈ lw_all := lw_g (lw_at lw_m15 47 rfl) rfl
theorem q3527 : (Jvm.Cond.code ({ cls := "NoteImporterModel", name := "isNote", desc := "(I)Z" } : Jvm.MethodName) prog_16_method_17_code (2 : Nat) (Option.some Jvm.ClassFile.FieldType.boolean)) ∈ lw_all := lw_g (lw_at lw_m15 48 rfl) rfl
theorem q3529 : (Jvm.Cond.instanceMethod ({ cls := "NoteImporterModel", name := "removeNote", desc := "()I" } : Jvm.MethodName)) ∈ lw_all := lw_g (lw_at lw_m15 50 rfl) rfl
theorem q3530 : (Jvm.Cond.selects "NoteImporterModel" ({ cls := "NoteImporterModel", name := "removeNote", desc := "()I" } : Jvm.MethodName) ({ cls := "NoteImporterModel", name := "removeNote", desc := "()I" } : Jvm.MethodName)) ∈ lw_all := lw_g (lw_at lw_m15 51 rfl) rfl
theorem q3531 : (Jvm.Cond.code ({ cls := "NoteImporterModel", name := "removeNote", desc := "()I" } : Jvm.MethodName) prog_16_method_57_code (1 : Nat) (Option.some Jvm.ClassFile.FieldType.int)) ∈ lw_all := lw_g (lw_at lw_m15 52 rfl) rfl
theorem q3533 : (Jvm.Cond.instanceMethod ({ cls := "NoteImporterModel", name := "partner", desc := "(II)I" } : Jvm.MethodName)) ∈ lw_all := lw_g (lw_at lw_m15 54 rfl) rfl
theorem q3534 : (Jvm.Cond.selects "NoteImporterModel" ({ cls := "NoteImporterModel", name := "partner", desc := "(II)I" } : Jvm.MethodName) ({ cls := "NoteImporterModel", name := "partner", desc := "(II)I" } : Jvm.MethodName)) ∈ lw_all := lw_g (lw_at lw_m15 55 rfl) rfl
theorem q3535 : (Jvm.Cond.code ({ cls := "NoteImporterModel", name := "partner", desc := "(II)I" } : Jvm.MethodName) prog_16_method_61_code (3 : Nat) (Option.some Jvm.ClassFile.FieldType.int)) ∈ lw_all := lw_g (lw_at lw_m15 56 rfl) rfl
theorem q3537 : (Jvm.Cond.instanceMethod ({ cls := "NoteImporterModel", name := "partners", desc := "(I)I" } : Jvm.MethodName)) ∈ lw_all := lw_g (lw_at lw_m15 58 rfl) rfl
theorem q3538 : (Jvm.Cond.selects "NoteImporterModel" ({ cls := "NoteImporterModel", name := "partners", desc := "(I)I" } : Jvm.MethodName) ({ cls := "NoteImporterModel", name := "partners", desc := "(I)I" } : Jvm.MethodName)) ∈ lw_all := lw_g (lw_at lw_m15 59 rfl) rfl
theorem q3539 : (Jvm.Cond.code ({ cls := "NoteImporterModel", name := "partners", desc := "(I)I" } : Jvm.MethodName) prog_16_method_62_code (4 : Nat) (Option.some Jvm.ClassFile.FieldType.int)) ∈ lw_all := lw_g (lw_at lw_m15 60 rfl) rfl
theorem q3541 : (Jvm.Cond.instanceMethod ({ cls := "NoteImporterModel", name := "anchor", desc := "(II)I" } : Jvm.MethodName)) ∈ lw_all := lw_g (lw_at lw_m15 62 rfl) rfl
theorem q3542 : (Jvm.Cond.selects "NoteImporterModel" ({ cls := "NoteImporterModel", name := "anchor", desc := "(II)I" } : Jvm.MethodName) ({ cls := "NoteImporterModel", name := "anchor", desc := "(II)I" } : Jvm.MethodName)) ∈ lw_all := lw_g (lw_at lw_m15 63 rfl) rfl
theorem q3543 : (Jvm.Cond.code ({ cls := "NoteImporterModel", name := "anchor", desc := "(II)I" } : Jvm.MethodName) prog_16_method_66_code (3 : Nat) (Option.some Jvm.ClassFile.FieldType.int)) ∈ lw_all := lw_g (lw_at lw_m15 64 rfl) rfl
theorem q3545 : (Jvm.Cond.instanceMethod ({ cls := "NoteImporterModel", name := "anchors", desc := "(I)I" } : Jvm.MethodName)) ∈ lw_all := lw_g (lw_at lw_m15 66 rfl) rfl
theorem q3546 : (Jvm.Cond.selects "NoteImporterModel" ({ cls := "NoteImporterModel", name := "anchors", desc := "(I)I" } : Jvm.MethodName) ({ cls := "NoteImporterModel", name := "anchors", desc := "(I)I" } : Jvm.MethodName)) ∈ lw_all := lw_g (lw_at lw_m15 67 rfl) rfl
theorem q3547 : (Jvm.Cond.code ({ cls := "NoteImporterModel", name := "anchors", desc := "(I)I" } : Jvm.MethodName) prog_16_method_67_code (4 : Nat) (Option.some Jvm.ClassFile.FieldType.int)) ∈ lw_all := lw_g (lw_at lw_m15 68 rfl) rfl
theorem q3549 : (Jvm.Cond.instanceMethod ({ cls := "NoteImporterModel", name := "setThreshold", desc := "(I)I" } : Jvm.MethodName)) ∈ lw_all := lw_g (lw_at lw_m15 70 rfl) rfl
theorem q3550 : (Jvm.Cond.selects "NoteImporterModel" ({ cls := "NoteImporterModel", name := "setThreshold", desc := "(I)I" } : Jvm.MethodName) ({ cls := "NoteImporterModel", name := "setThreshold", desc := "(I)I" } : Jvm.MethodName)) ∈ lw_all := lw_g (lw_at lw_m15 71 rfl) rfl
theorem q3551 : (Jvm.Cond.code ({ cls := "NoteImporterModel", name := "setThreshold", desc := "(I)I" } : Jvm.MethodName) prog_16_method_68_code (3 : Nat) (Option.some Jvm.ClassFile.FieldType.int)) ∈ lw_all := lw_g (lw_at lw_m15 72 rfl) rfl
theorem q3553 : (Jvm.Cond.instanceMethod ({ cls := "NoteImporterModel", name := "areAlike", desc := "(II)Z" } : Jvm.MethodName)) ∈ lw_all := lw_g (lw_at lw_m15 74 rfl) rfl
theorem q3554 : (Jvm.Cond.selects "NoteImporterModel" ({ cls := "NoteImporterModel", name := "areAlike", desc := "(II)Z" } : Jvm.MethodName) ({ cls := "NoteImporterModel", name := "areAlike", desc := "(II)Z" } : Jvm.MethodName)) ∈ lw_all := lw_g (lw_at lw_m15 75 rfl) rfl
theorem q3555 : (Jvm.Cond.code ({ cls := "NoteImporterModel", name := "areAlike", desc := "(II)Z" } : Jvm.MethodName) prog_16_method_74_code (3 : Nat) (Option.some Jvm.ClassFile.FieldType.boolean)) ∈ lw_all := lw_g (lw_at lw_m15 76 rfl) rfl
theorem q3557 : (Jvm.Cond.instanceMethod ({ cls := "NoteImporterModel", name := "groupOf", desc := "(I)I" } : Jvm.MethodName)) ∈ lw_all := lw_g (lw_at lw_m15 78 rfl) rfl
theorem q3558 : (Jvm.Cond.selects "NoteImporterModel" ({ cls := "NoteImporterModel", name := "groupOf", desc := "(I)I" } : Jvm.MethodName) ({ cls := "NoteImporterModel", name := "groupOf", desc := "(I)I" } : Jvm.MethodName)) ∈ lw_all := lw_g (lw_at lw_m15 79 rfl) rfl
theorem q3559 : (Jvm.Cond.code ({ cls := "NoteImporterModel", name := "groupOf", desc := "(I)I" } : Jvm.MethodName) prog_16_method_78_code (2 : Nat) (Option.some Jvm.ClassFile.FieldType.int)) ∈ lw_all := lw_g (lw_at lw_m15 80 rfl) rfl
theorem q3561 : (Jvm.Cond.instanceMethod ({ cls := "NoteImporterModel", name := "group", desc := "(II)I" } : Jvm.MethodName)) ∈ lw_all := lw_g (lw_at lw_m15 82 rfl) rfl
theorem q3562 : (Jvm.Cond.selects "NoteImporterModel" ({ cls := "NoteImporterModel", name := "group", desc := "(II)I" } : Jvm.MethodName) ({ cls := "NoteImporterModel", name := "group", desc := "(II)I" } : Jvm.MethodName)) ∈ lw_all := lw_g (lw_at lw_m15 83 rfl) rfl
theorem q3563 : (Jvm.Cond.code ({ cls := "NoteImporterModel", name := "group", desc := "(II)I" } : Jvm.MethodName) prog_16_method_80_code (3 : Nat) (Option.some Jvm.ClassFile.FieldType.int)) ∈ lw_all := lw_g (lw_at lw_m15 84 rfl) rfl
theorem q3564 : (Jvm.Cond.methodLink "NoteImporterModel" (291 : Nat) ({ cls := "NoteImporterModel", name := "isGroup", desc := "(I)Z" } : Jvm.MethodName)) ∈ lw_all := lw_g (lw_at lw_m15 85 rfl) rfl
theorem q3565 : (Jvm.Cond.privateMethod ({ cls := "NoteImporterModel", name := "isGroup", desc := "(I)Z" } : Jvm.MethodName)) ∈ lw_tbl := lw_at lw_m15 86 rfl
theorem q3566 : (Jvm.Cond.instanceMethod ({ cls := "NoteImporterModel", name := "isGroup", desc := "(I)Z" } : Jvm.MethodName)) ∈ lw_all := lw_g (lw_at lw_m15 87 rfl) rfl
theorem q3567 : (Jvm.Cond.code ({ cls := "NoteImporterModel", name := "isGroup", desc := "(I)Z" } : Jvm.MethodName) prog_16_method_79_code (2 : Nat) (Option.some Jvm.ClassFile.FieldType.boolean)) ∈ lw_all := lw_g (lw_at lw_m15 88 rfl) rfl
theorem q3569 : (Jvm.Cond.instanceMethod ({ cls := "NoteImporterModel", name := "strongestGroup", desc := "()I" } : Jvm.MethodName)) ∈ lw_all := lw_g (lw_at lw_m15 90 rfl) rfl
theorem q3570 : (Jvm.Cond.selects "NoteImporterModel" ({ cls := "NoteImporterModel", name := "strongestGroup", desc := "()I" } : Jvm.MethodName) ({ cls := "NoteImporterModel", name := "strongestGroup", desc := "()I" } : Jvm.MethodName)) ∈ lw_all := lw_g (lw_at lw_m15 91 rfl) rfl
theorem q3571 : (Jvm.Cond.code ({ cls := "NoteImporterModel", name := "strongestGroup", desc := "()I" } : Jvm.MethodName) prog_16_method_82_code (4 : Nat) (Option.some Jvm.ClassFile.FieldType.int)) ∈ lw_all := lw_g (lw_at lw_m15 92 rfl) rfl
theorem q3572 : (Jvm.Cond.methodLink "NoteImporterModel" (294 : Nat) ({ cls := "NoteImporterModel", name := "bitsOf", desc := "(I)I" } : Jvm.MethodName)) ∈ lw_all := lw_g (lw_at lw_m15 93 rfl) rfl
theorem q3573 : (Jvm.Cond.static ({ cls := "NoteImporterModel", name := "bitsOf", desc := "(I)I" } : Jvm.MethodName)) ∈ lw_all := lw_g (lw_at lw_m15 94 rfl) rfl
theorem q3574 : (Jvm.Cond.code ({ cls := "NoteImporterModel", name := "bitsOf", desc := "(I)I" } : Jvm.MethodName) prog_16_method_81_code (3 : Nat) (Option.some Jvm.ClassFile.FieldType.int)) ∈ lw_all := lw_g (lw_at lw_m15 95 rfl) rfl
theorem q3576 : (Jvm.Cond.instanceMethod ({ cls := "NoteImporterModel", name := "heat", desc := "(I)I" } : Jvm.MethodName)) ∈ lw_all := lw_g (lw_at lw_m15 97 rfl) rfl
theorem q3577 : (Jvm.Cond.selects "NoteImporterModel" ({ cls := "NoteImporterModel", name := "heat", desc := "(I)I" } : Jvm.MethodName) ({ cls := "NoteImporterModel", name := "heat", desc := "(I)I" } : Jvm.MethodName)) ∈ lw_all := lw_g (lw_at lw_m15 98 rfl) rfl
theorem q3578 : (Jvm.Cond.code ({ cls := "NoteImporterModel", name := "heat", desc := "(I)I" } : Jvm.MethodName) prog_16_method_85_code (2 : Nat) (Option.some Jvm.ClassFile.FieldType.int)) ∈ lw_all := lw_g (lw_at lw_m15 99 rfl) rfl
theorem q3579 : (Jvm.Cond.methodLink "NoteImporterModel" (297 : Nat) ({ cls := "NoteImporterModel", name := "isTargetWord", desc := "(I)Z" } : Jvm.MethodName)) ∈ lw_all := lw_g (lw_at lw_m15 100 rfl) rfl
theorem q3580 : (Jvm.Cond.privateMethod ({ cls := "NoteImporterModel", name := "isTargetWord", desc := "(I)Z" } : Jvm.MethodName)) ∈ lw_tbl := lw_at lw_m15 101 rfl
theorem q3581 : (Jvm.Cond.instanceMethod ({ cls := "NoteImporterModel", name := "isTargetWord", desc := "(I)Z" } : Jvm.MethodName)) ∈ lw_all := lw_g (lw_at lw_m15 102 rfl) rfl
theorem q3582 : (Jvm.Cond.code ({ cls := "NoteImporterModel", name := "isTargetWord", desc := "(I)Z" } : Jvm.MethodName) prog_16_method_84_code (2 : Nat) (Option.some Jvm.ClassFile.FieldType.boolean)) ∈ lw_all := lw_g (lw_at lw_m15 103 rfl) rfl
theorem q3583 : (Jvm.Cond.methodLink "NoteImporterModel" (300 : Nat) ({ cls := "NoteImporterModel", name := "heatOf", desc := "(I)I" } : Jvm.MethodName)) ∈ lw_all := lw_g (lw_at lw_m15 104 rfl) rfl
theorem q3584 : (Jvm.Cond.privateMethod ({ cls := "NoteImporterModel", name := "heatOf", desc := "(I)I" } : Jvm.MethodName)) ∈ lw_tbl := lw_at lw_m15 105 rfl
theorem q3585 : (Jvm.Cond.instanceMethod ({ cls := "NoteImporterModel", name := "heatOf", desc := "(I)I" } : Jvm.MethodName)) ∈ lw_all := lw_g (lw_at lw_m15 106 rfl) rfl
theorem q3586 : (Jvm.Cond.code ({ cls := "NoteImporterModel", name := "heatOf", desc := "(I)I" } : Jvm.MethodName) prog_16_method_83_code (5 : Nat) (Option.some Jvm.ClassFile.FieldType.int)) ∈ lw_all := lw_g (lw_at lw_m15 107 rfl) rfl
theorem q3588 : (Jvm.Cond.instanceMethod ({ cls := "NoteImporterModel", name := "hottestPage", desc := "()I" } : Jvm.MethodName)) ∈ lw_all := lw_g (lw_at lw_m15 109 rfl) rfl
theorem q3589 : (Jvm.Cond.selects "NoteImporterModel" ({ cls := "NoteImporterModel", name := "hottestPage", desc := "()I" } : Jvm.MethodName) ({ cls := "NoteImporterModel", name := "hottestPage", desc := "()I" } : Jvm.MethodName)) ∈ lw_all := lw_g (lw_at lw_m15 110 rfl) rfl
theorem q3590 : (Jvm.Cond.code ({ cls := "NoteImporterModel", name := "hottestPage", desc := "()I" } : Jvm.MethodName) prog_16_method_87_code (5 : Nat) (Option.some Jvm.ClassFile.FieldType.int)) ∈ lw_all := lw_g (lw_at lw_m15 111 rfl) rfl
theorem q3591 : (Jvm.Cond.methodLink "NoteImporterModel" (303 : Nat) ({ cls := "NoteImporterModel", name := "targetPageOf", desc := "(I)I" } : Jvm.MethodName)) ∈ lw_all := lw_g (lw_at lw_m15 112 rfl) rfl
theorem q3592 : (Jvm.Cond.privateMethod ({ cls := "NoteImporterModel", name := "targetPageOf", desc := "(I)I" } : Jvm.MethodName)) ∈ lw_tbl := lw_at lw_m15 113 rfl
theorem q3593 : (Jvm.Cond.instanceMethod ({ cls := "NoteImporterModel", name := "targetPageOf", desc := "(I)I" } : Jvm.MethodName)) ∈ lw_all := lw_g (lw_at lw_m15 114 rfl) rfl
theorem q3594 : (Jvm.Cond.code ({ cls := "NoteImporterModel", name := "targetPageOf", desc := "(I)I" } : Jvm.MethodName) prog_16_method_86_code (2 : Nat) (Option.some Jvm.ClassFile.FieldType.int)) ∈ lw_all := lw_g (lw_at lw_m15 115 rfl) rfl
theorem q3596 : (Jvm.Cond.instanceMethod ({ cls := "NoteImporterModel", name := "marginGroups", desc := "(I)I" } : Jvm.MethodName)) ∈ lw_all := lw_g (lw_at lw_m15 117 rfl) rfl
theorem q3597 : (Jvm.Cond.selects "NoteImporterModel" ({ cls := "NoteImporterModel", name := "marginGroups", desc := "(I)I" } : Jvm.MethodName) ({ cls := "NoteImporterModel", name := "marginGroups", desc := "(I)I" } : Jvm.MethodName)) ∈ lw_all := lw_g (lw_at lw_m15 118 rfl) rfl
theorem q3598 : (Jvm.Cond.code ({ cls := "NoteImporterModel", name := "marginGroups", desc := "(I)I" } : Jvm.MethodName) prog_16_method_93_code (2 : Nat) (Option.some Jvm.ClassFile.FieldType.int)) ∈ lw_all := lw_g (lw_at lw_m15 119 rfl) rfl
theorem q3599 : (Jvm.Cond.methodLink "NoteImporterModel" (318 : Nat) ({ cls := "NoteImporterModel", name := "layMargins", desc := "()V" } : Jvm.MethodName)) ∈ lw_all := lw_g (lw_at lw_m15 120 rfl) rfl
theorem q3600 : (Jvm.Cond.privateMethod ({ cls := "NoteImporterModel", name := "layMargins", desc := "()V" } : Jvm.MethodName)) ∈ lw_tbl := lw_at lw_m15 121 rfl
theorem q3601 : (Jvm.Cond.instanceMethod ({ cls := "NoteImporterModel", name := "layMargins", desc := "()V" } : Jvm.MethodName)) ∈ lw_all := lw_g (lw_at lw_m15 122 rfl) rfl
theorem q3602 : (Jvm.Cond.code ({ cls := "NoteImporterModel", name := "layMargins", desc := "()V" } : Jvm.MethodName) prog_16_method_91_code (1 : Nat) (Option.none : Option Jvm.ClassFile.FieldType)) ∈ lw_all := lw_g (lw_at lw_m15 123 rfl) rfl
theorem q3603 : (Jvm.Cond.methodLink "NoteImporterModel" (321 : Nat) ({ cls := "NoteImporterModel", name := "isTargetPage", desc := "(I)Z" } : Jvm.MethodName)) ∈ lw_all := lw_g (lw_at lw_m15 124 rfl) rfl
theorem q3604 : (Jvm.Cond.privateMethod ({ cls := "NoteImporterModel", name := "isTargetPage", desc := "(I)Z" } : Jvm.MethodName)) ∈ lw_tbl := lw_at lw_m15 125 rfl
theorem q3605 : (Jvm.Cond.instanceMethod ({ cls := "NoteImporterModel", name := "isTargetPage", desc := "(I)Z" } : Jvm.MethodName)) ∈ lw_all := lw_g (lw_at lw_m15 126 rfl) rfl
theorem q3606 : (Jvm.Cond.code ({ cls := "NoteImporterModel", name := "isTargetPage", desc := "(I)Z" } : Jvm.MethodName) prog_16_method_92_code (2 : Nat) (Option.some Jvm.ClassFile.FieldType.boolean)) ∈ lw_all := lw_g (lw_at lw_m15 127 rfl) rfl
theorem q3607 : (Jvm.Cond.methodLink "NoteImporterModel" (324 : Nat) ({ cls := "NoteImporterModel", name := "layMargin", desc := "(I)V" } : Jvm.MethodName)) ∈ lw_all := lw_g (lw_at lw_m15 128 rfl) rfl
theorem q3608 : (Jvm.Cond.privateMethod ({ cls := "NoteImporterModel", name := "layMargin", desc := "(I)V" } : Jvm.MethodName)) ∈ lw_tbl := lw_at lw_m15 129 rfl
theorem q3609 : (Jvm.Cond.instanceMethod ({ cls := "NoteImporterModel", name := "layMargin", desc := "(I)V" } : Jvm.MethodName)) ∈ lw_all := lw_g (lw_at lw_m15 130 rfl) rfl
theorem q3610 : (Jvm.Cond.code ({ cls := "NoteImporterModel", name := "layMargin", desc := "(I)V" } : Jvm.MethodName) prog_16_method_90_code (5 : Nat) (Option.none : Option Jvm.ClassFile.FieldType)) ∈ lw_all := lw_g (lw_at lw_m15 131 rfl) rfl
theorem q3611 : (Jvm.Cond.methodLink "NoteImporterModel" (315 : Nat) ({ cls := "NoteImporterModel", name := "setGroup", desc := "(II)V" } : Jvm.MethodName)) ∈ lw_all := lw_g (lw_at lw_m15 132 rfl) rfl
theorem q3612 : (Jvm.Cond.privateMethod ({ cls := "NoteImporterModel", name := "setGroup", desc := "(II)V" } : Jvm.MethodName)) ∈ lw_tbl := lw_at lw_m15 133 rfl
theorem q3613 : (Jvm.Cond.instanceMethod ({ cls := "NoteImporterModel", name := "setGroup", desc := "(II)V" } : Jvm.MethodName)) ∈ lw_all := lw_g (lw_at lw_m15 134 rfl) rfl
theorem q3614 : (Jvm.Cond.code ({ cls := "NoteImporterModel", name := "setGroup", desc := "(II)V" } : Jvm.MethodName) prog_16_method_89_code (6 : Nat) (Option.none : Option Jvm.ClassFile.FieldType)) ∈ lw_all := lw_g (lw_at lw_m15 135 rfl) rfl
theorem q3615 : (Jvm.Cond.methodLink "NoteImporterModel" (306 : Nat) ({ cls := "NoteImporterModel", name := "isFree", desc := "(II)Z" } : Jvm.MethodName)) ∈ lw_all := lw_g (lw_at lw_m15 136 rfl) rfl
theorem q3616 : (Jvm.Cond.privateMethod ({ cls := "NoteImporterModel", name := "isFree", desc := "(II)Z" } : Jvm.MethodName)) ∈ lw_tbl := lw_at lw_m15 137 rfl
theorem q3617 : (Jvm.Cond.instanceMethod ({ cls := "NoteImporterModel", name := "isFree", desc := "(II)Z" } : Jvm.MethodName)) ∈ lw_all := lw_g (lw_at lw_m15 138 rfl) rfl
theorem q3618 : (Jvm.Cond.code ({ cls := "NoteImporterModel", name := "isFree", desc := "(II)Z" } : Jvm.MethodName) prog_16_method_88_code (5 : Nat) (Option.some Jvm.ClassFile.FieldType.boolean)) ∈ lw_all := lw_g (lw_at lw_m15 139 rfl) rfl
theorem q3620 : (Jvm.Cond.instanceMethod ({ cls := "NoteImporterModel", name := "marginRow", desc := "(II)I" } : Jvm.MethodName)) ∈ lw_all := lw_g (lw_at lw_m15 141 rfl) rfl
theorem q3621 : (Jvm.Cond.selects "NoteImporterModel" ({ cls := "NoteImporterModel", name := "marginRow", desc := "(II)I" } : Jvm.MethodName) ({ cls := "NoteImporterModel", name := "marginRow", desc := "(II)I" } : Jvm.MethodName)) ∈ lw_all := lw_g (lw_at lw_m15 142 rfl) rfl
theorem q3622 : (Jvm.Cond.code ({ cls := "NoteImporterModel", name := "marginRow", desc := "(II)I" } : Jvm.MethodName) prog_16_method_94_code (3 : Nat) (Option.some Jvm.ClassFile.FieldType.int)) ∈ lw_all := lw_g (lw_at lw_m15 143 rfl) rfl
theorem q3624 : (Jvm.Cond.instanceMethod ({ cls := "NoteImporterModel", name := "overflows", desc := "()I" } : Jvm.MethodName)) ∈ lw_all := lw_g (lw_at lw_m15 145 rfl) rfl
theorem q3625 : (Jvm.Cond.selects "NoteImporterModel" ({ cls := "NoteImporterModel", name := "overflows", desc := "()I" } : Jvm.MethodName) ({ cls := "NoteImporterModel", name := "overflows", desc := "()I" } : Jvm.MethodName)) ∈ lw_all := lw_g (lw_at lw_m15 146 rfl) rfl
theorem q3626 : (Jvm.Cond.code ({ cls := "NoteImporterModel", name := "overflows", desc := "()I" } : Jvm.MethodName) prog_16_method_95_code (3 : Nat) (Option.some Jvm.ClassFile.FieldType.int)) ∈ lw_all := lw_g (lw_at lw_m15 147 rfl) rfl
theorem q3628 : (Jvm.Cond.instanceMethod ({ cls := "NoteImporterModel", name := "write", desc := "(I)I" } : Jvm.MethodName)) ∈ lw_all := lw_g (lw_at lw_m15 149 rfl) rfl
theorem q3629 : (Jvm.Cond.selects "NoteImporterModel" ({ cls := "NoteImporterModel", name := "write", desc := "(I)I" } : Jvm.MethodName) ({ cls := "NoteImporterModel", name := "write", desc := "(I)I" } : Jvm.MethodName)) ∈ lw_all := lw_g (lw_at lw_m15 150 rfl) rfl
theorem q3630 : (Jvm.Cond.code ({ cls := "NoteImporterModel", name := "write", desc := "(I)I" } : Jvm.MethodName) prog_16_method_100_code (2 : Nat) (Option.some Jvm.ClassFile.FieldType.int)) ∈ lw_all := lw_g (lw_at lw_m15 151 rfl) rfl
theorem q3631 : (Jvm.Cond.methodLink "NoteImporterModel" (357 : Nat) ({ cls := "NoteImporterModel", name := "putGroup", desc := "(I)V" } : Jvm.MethodName)) ∈ lw_all := lw_g (lw_at lw_m15 152 rfl) rfl
theorem q3632 : (Jvm.Cond.privateMethod ({ cls := "NoteImporterModel", name := "putGroup", desc := "(I)V" } : Jvm.MethodName)) ∈ lw_tbl := lw_at lw_m15 153 rfl
theorem q3633 : (Jvm.Cond.instanceMethod ({ cls := "NoteImporterModel", name := "putGroup", desc := "(I)V" } : Jvm.MethodName)) ∈ lw_all := lw_g (lw_at lw_m15 154 rfl) rfl
theorem q3634 : (Jvm.Cond.code ({ cls := "NoteImporterModel", name := "putGroup", desc := "(I)V" } : Jvm.MethodName) prog_16_method_99_code (4 : Nat) (Option.none : Option Jvm.ClassFile.FieldType)) ∈ lw_all := lw_g (lw_at lw_m15 155 rfl) rfl
theorem q3635 : (Jvm.Cond.methodLink "NoteImporterModel" (350 : Nat) ({ cls := "NoteImporterModel", name := "putWord", desc := "(J)V" } : Jvm.MethodName)) ∈ lw_all := lw_g (lw_at lw_m15 156 rfl) rfl
theorem q3636 : (Jvm.Cond.privateMethod ({ cls := "NoteImporterModel", name := "putWord", desc := "(J)V" } : Jvm.MethodName)) ∈ lw_tbl := lw_at lw_m15 157 rfl
theorem q3637 : (Jvm.Cond.instanceMethod ({ cls := "NoteImporterModel", name := "putWord", desc := "(J)V" } : Jvm.MethodName)) ∈ lw_all := lw_g (lw_at lw_m15 158 rfl) rfl
theorem q3638 : (Jvm.Cond.code ({ cls := "NoteImporterModel", name := "putWord", desc := "(J)V" } : Jvm.MethodName) prog_16_method_97_code (4 : Nat) (Option.none : Option Jvm.ClassFile.FieldType)) ∈ lw_all := lw_g (lw_at lw_m15 159 rfl) rfl
theorem q3639 : (Jvm.Cond.methodLink "NoteImporterModel" (330 : Nat) ({ cls := "NoteImporterModel", name := "put", desc := "(I)V" } : Jvm.MethodName)) ∈ lw_all := lw_g (lw_at lw_m15 160 rfl) rfl
theorem q3640 : (Jvm.Cond.privateMethod ({ cls := "NoteImporterModel", name := "put", desc := "(I)V" } : Jvm.MethodName)) ∈ lw_tbl := lw_at lw_m15 161 rfl
theorem q3641 : (Jvm.Cond.instanceMethod ({ cls := "NoteImporterModel", name := "put", desc := "(I)V" } : Jvm.MethodName)) ∈ lw_all := lw_g (lw_at lw_m15 162 rfl) rfl
theorem q3642 : (Jvm.Cond.code ({ cls := "NoteImporterModel", name := "put", desc := "(I)V" } : Jvm.MethodName) prog_16_method_96_code (2 : Nat) (Option.none : Option Jvm.ClassFile.FieldType)) ∈ lw_all := lw_g (lw_at lw_m15 163 rfl) rfl
theorem q3643 : (Jvm.Cond.methodLink "NoteImporterModel" (354 : Nat) ({ cls := "NoteImporterModel", name := "putKind", desc := "(I)V" } : Jvm.MethodName)) ∈ lw_all := lw_g (lw_at lw_m15 164 rfl) rfl
theorem q3644 : (Jvm.Cond.privateMethod ({ cls := "NoteImporterModel", name := "putKind", desc := "(I)V" } : Jvm.MethodName)) ∈ lw_tbl := lw_at lw_m15 165 rfl
theorem q3645 : (Jvm.Cond.instanceMethod ({ cls := "NoteImporterModel", name := "putKind", desc := "(I)V" } : Jvm.MethodName)) ∈ lw_all := lw_g (lw_at lw_m15 166 rfl) rfl
theorem q3646 : (Jvm.Cond.code ({ cls := "NoteImporterModel", name := "putKind", desc := "(I)V" } : Jvm.MethodName) prog_16_method_98_code (4 : Nat) (Option.none : Option Jvm.ClassFile.FieldType)) ∈ lw_all := lw_g (lw_at lw_m15 167 rfl) rfl
theorem q3647 : (Jvm.Cond.stringRef "NoteImporterModel" (333 : Nat) "mark") ∈ lw_tbl := lw_at lw_m15 168 rfl
theorem q3648 : (Jvm.Cond.stringRef "NoteImporterModel" (335 : Nat) "comment") ∈ lw_tbl := lw_at lw_m15 169 rfl
theorem q3649 : (Jvm.Cond.stringRef "NoteImporterModel" (337 : Nat) "question") ∈ lw_tbl := lw_at lw_m15 170 rfl
theorem q3650 : (Jvm.Cond.stringRef "NoteImporterModel" (339 : Nat) "correction") ∈ lw_tbl := lw_at lw_m15 171 rfl
theorem q3651 : (Jvm.Cond.methodLink "NoteImporterModel" (341 : Nat) ({ cls := "java/lang/String", name := "length", desc := "()I" } : Jvm.MethodName)) ∈ lw_all := lw_g (lw_at lw_m15 172 rfl) rfl
theorem q3652 : (Jvm.Cond.methodLink "NoteImporterModel" (346 : Nat) ({ cls := "java/lang/String", name := "charAt", desc := "(I)C" } : Jvm.MethodName)) ∈ lw_all := lw_g (lw_at lw_m15 173 rfl) rfl
theorem q3654 : (Jvm.Cond.instanceMethod ({ cls := "NoteImporterModel", name := "outputByte", desc := "(I)I" } : Jvm.MethodName)) ∈ lw_all := lw_g (lw_at lw_m15 175 rfl) rfl
theorem q3655 : (Jvm.Cond.selects "NoteImporterModel" ({ cls := "NoteImporterModel", name := "outputByte", desc := "(I)I" } : Jvm.MethodName) ({ cls := "NoteImporterModel", name := "outputByte", desc := "(I)I" } : Jvm.MethodName)) ∈ lw_all := lw_g (lw_at lw_m15 176 rfl) rfl
theorem q3656 : (Jvm.Cond.code ({ cls := "NoteImporterModel", name := "outputByte", desc := "(I)I" } : Jvm.MethodName) prog_16_method_101_code (2 : Nat) (Option.some Jvm.ClassFile.FieldType.int)) ∈ lw_all := lw_g (lw_at lw_m15 177 rfl) rfl
theorem q3658 : (Jvm.Cond.instanceMethod ({ cls := "NoteImporterModel", name := "importText", desc := "()I" } : Jvm.MethodName)) ∈ lw_all := lw_g (lw_at lw_m15 179 rfl) rfl
theorem q3659 : (Jvm.Cond.selects "NoteImporterModel" ({ cls := "NoteImporterModel", name := "importText", desc := "()I" } : Jvm.MethodName) ({ cls := "NoteImporterModel", name := "importText", desc := "()I" } : Jvm.MethodName)) ∈ lw_all := lw_g (lw_at lw_m15 180 rfl) rfl
theorem q3660 : (Jvm.Cond.code ({ cls := "NoteImporterModel", name := "importText", desc := "()I" } : Jvm.MethodName) prog_16_method_120_code (2 : Nat) (Option.some Jvm.ClassFile.FieldType.int)) ∈ lw_all := lw_g (lw_at lw_m15 181 rfl) rfl
theorem q3661 : (Jvm.Cond.methodLink "NoteImporterModel" (464 : Nat) ({ cls := "NoteImporterModel", name := "copy", desc := "([II[II)V" } : Jvm.MethodName)) ∈ lw_all := lw_g (lw_at lw_m15 182 rfl) rfl
theorem q3662 : (Jvm.Cond.static ({ cls := "NoteImporterModel", name := "copy", desc := "([II[II)V" } : Jvm.MethodName)) ∈ lw_all := lw_g (lw_at lw_m15 183 rfl) rfl
theorem q3663 : (Jvm.Cond.code ({ cls := "NoteImporterModel", name := "copy", desc := "([II[II)V" } : Jvm.MethodName) prog_16_method_5_code (5 : Nat) (Option.none : Option Jvm.ClassFile.FieldType)) ∈ lw_all := lw_g (lw_at lw_m15 184 rfl) rfl
theorem q3664 : (Jvm.Cond.methodLink "NoteImporterModel" (468 : Nat) ({ cls := "NoteImporterModel", name := "copyWords", desc := "([JI[JI)V" } : Jvm.MethodName)) ∈ lw_all := lw_g (lw_at lw_m15 185 rfl) rfl
theorem q3665 : (Jvm.Cond.static ({ cls := "NoteImporterModel", name := "copyWords", desc := "([JI[JI)V" } : Jvm.MethodName)) ∈ lw_all := lw_g (lw_at lw_m15 186 rfl) rfl
theorem q3666 : (Jvm.Cond.code ({ cls := "NoteImporterModel", name := "copyWords", desc := "([JI[JI)V" } : Jvm.MethodName) prog_16_method_6_code (5 : Nat) (Option.none : Option Jvm.ClassFile.FieldType)) ∈ lw_all := lw_g (lw_at lw_m15 187 rfl) rfl
theorem q3667 : (Jvm.Cond.methodLink "NoteImporterModel" (390 : Nat) ({ cls := "NoteImporterModel", name := "nextToken", desc := "()V" } : Jvm.MethodName)) ∈ lw_all := lw_g (lw_at lw_m15 188 rfl) rfl
theorem q3668 : (Jvm.Cond.privateMethod ({ cls := "NoteImporterModel", name := "nextToken", desc := "()V" } : Jvm.MethodName)) ∈ lw_tbl := lw_at lw_m15 189 rfl
theorem q3669 : (Jvm.Cond.instanceMethod ({ cls := "NoteImporterModel", name := "nextToken", desc := "()V" } : Jvm.MethodName)) ∈ lw_all := lw_g (lw_at lw_m15 190 rfl) rfl
theorem q3670 : (Jvm.Cond.code ({ cls := "NoteImporterModel", name := "nextToken", desc := "()V" } : Jvm.MethodName) prog_16_method_102_code (2 : Nat) (Option.none : Option Jvm.ClassFile.FieldType)) ∈ lw_all := lw_g (lw_at lw_m15 191 rfl) rfl
theorem q3671 : (Jvm.Cond.methodLink "NoteImporterModel" (379 : Nat) ({ cls := "NoteImporterModel", name := "isDigit", desc := "(I)Z" } : Jvm.MethodName)) ∈ lw_all := lw_g (lw_at lw_m15 192 rfl) rfl
theorem q3672 : (Jvm.Cond.static ({ cls := "NoteImporterModel", name := "isDigit", desc := "(I)Z" } : Jvm.MethodName)) ∈ lw_all := lw_g (lw_at lw_m15 193 rfl) rfl
theorem q3673 : (Jvm.Cond.code ({ cls := "NoteImporterModel", name := "isDigit", desc := "(I)Z" } : Jvm.MethodName) prog_16_method_28_code (1 : Nat) (Option.some Jvm.ClassFile.FieldType.boolean)) ∈ lw_all := lw_g (lw_at lw_m15 194 rfl) rfl
theorem q3674 : (Jvm.Cond.constant "NoteImporterModel" (382 : Nat) (100000 : Int32)) ∈ lw_all := lw_g (lw_at lw_m15 195 rfl) rfl
theorem q3675 : (Jvm.Cond.methodLink "NoteImporterModel" (386 : Nat) ({ cls := "NoteImporterModel", name := "isFine", desc := "()Z" } : Jvm.MethodName)) ∈ lw_all := lw_g (lw_at lw_m15 196 rfl) rfl
theorem q3676 : (Jvm.Cond.privateMethod ({ cls := "NoteImporterModel", name := "isFine", desc := "()Z" } : Jvm.MethodName)) ∈ lw_tbl := lw_at lw_m15 197 rfl
theorem q3677 : (Jvm.Cond.instanceMethod ({ cls := "NoteImporterModel", name := "isFine", desc := "()Z" } : Jvm.MethodName)) ∈ lw_all := lw_g (lw_at lw_m15 198 rfl) rfl
theorem q3678 : (Jvm.Cond.code ({ cls := "NoteImporterModel", name := "isFine", desc := "()Z" } : Jvm.MethodName) prog_16_method_105_code (1 : Nat) (Option.some Jvm.ClassFile.FieldType.boolean)) ∈ lw_all := lw_g (lw_at lw_m15 199 rfl) rfl
theorem q3679 : (Jvm.Cond.methodLink "NoteImporterModel" (472 : Nat) ({ cls := "NoteImporterModel", name := "parseRecord", desc := "()V" } : Jvm.MethodName)) ∈ lw_all := lw_g (lw_at lw_m15 200 rfl) rfl
theorem q3680 : (Jvm.Cond.privateMethod ({ cls := "NoteImporterModel", name := "parseRecord", desc := "()V" } : Jvm.MethodName)) ∈ lw_tbl := lw_at lw_m15 201 rfl
theorem q3681 : (Jvm.Cond.instanceMethod ({ cls := "NoteImporterModel", name := "parseRecord", desc := "()V" } : Jvm.MethodName)) ∈ lw_all := lw_g (lw_at lw_m15 202 rfl) rfl
theorem q3682 : (Jvm.Cond.code ({ cls := "NoteImporterModel", name := "parseRecord", desc := "()V" } : Jvm.MethodName) prog_16_method_119_code (2 : Nat) (Option.none : Option Jvm.ClassFile.FieldType)) ∈ lw_all := lw_g (lw_at lw_m15 203 rfl) rfl
theorem q3683 : (Jvm.Cond.stringRef "NoteImporterModel" (448 : Nat) "edition") ∈ lw_tbl := lw_at lw_m15 204 rfl
theorem q3684 : (Jvm.Cond.methodLink "NoteImporterModel" (400 : Nat) ({ cls := "NoteImporterModel", name := "isKey", desc := "(Ljava/lang/String;)Z" } : Jvm.MethodName)) ∈ lw_all := lw_g (lw_at lw_m15 205 rfl) rfl
theorem q3685 : (Jvm.Cond.privateMethod ({ cls := "NoteImporterModel", name := "isKey", desc := "(Ljava/lang/String;)Z" } : Jvm.MethodName)) ∈ lw_tbl := lw_at lw_m15 206 rfl
theorem q3686 : (Jvm.Cond.instanceMethod ({ cls := "NoteImporterModel", name := "isKey", desc := "(Ljava/lang/String;)Z" } : Jvm.MethodName)) ∈ lw_all := lw_g (lw_at lw_m15 207 rfl) rfl
theorem q3687 : (Jvm.Cond.code ({ cls := "NoteImporterModel", name := "isKey", desc := "(Ljava/lang/String;)Z" } : Jvm.MethodName) prog_16_method_103_code (5 : Nat) (Option.some Jvm.ClassFile.FieldType.boolean)) ∈ lw_all := lw_g (lw_at lw_m15 208 rfl) rfl
theorem q3688 : (Jvm.Cond.methodLink "NoteImporterModel" (450 : Nat) ({ cls := "NoteImporterModel", name := "parseEdition", desc := "()V" } : Jvm.MethodName)) ∈ lw_all := lw_g (lw_at lw_m15 209 rfl) rfl
theorem q3689 : (Jvm.Cond.privateMethod ({ cls := "NoteImporterModel", name := "parseEdition", desc := "()V" } : Jvm.MethodName)) ∈ lw_tbl := lw_at lw_m15 210 rfl
theorem q3690 : (Jvm.Cond.instanceMethod ({ cls := "NoteImporterModel", name := "parseEdition", desc := "()V" } : Jvm.MethodName)) ∈ lw_all := lw_g (lw_at lw_m15 211 rfl) rfl
theorem q3691 : (Jvm.Cond.code ({ cls := "NoteImporterModel", name := "parseEdition", desc := "()V" } : Jvm.MethodName) prog_16_method_110_code (6 : Nat) (Option.none : Option Jvm.ClassFile.FieldType)) ∈ lw_all := lw_g (lw_at lw_m15 212 rfl) rfl
theorem q3692 : (Jvm.Cond.methodLink "NoteImporterModel" (393 : Nat) ({ cls := "NoteImporterModel", name := "require", desc := "(ZI)V" } : Jvm.MethodName)) ∈ lw_all := lw_g (lw_at lw_m15 213 rfl) rfl
theorem q3693 : (Jvm.Cond.privateMethod ({ cls := "NoteImporterModel", name := "require", desc := "(ZI)V" } : Jvm.MethodName)) ∈ lw_tbl := lw_at lw_m15 214 rfl
theorem q3694 : (Jvm.Cond.instanceMethod ({ cls := "NoteImporterModel", name := "require", desc := "(ZI)V" } : Jvm.MethodName)) ∈ lw_all := lw_g (lw_at lw_m15 215 rfl) rfl
theorem q3695 : (Jvm.Cond.code ({ cls := "NoteImporterModel", name := "require", desc := "(ZI)V" } : Jvm.MethodName) prog_16_method_104_code (3 : Nat) (Option.none : Option Jvm.ClassFile.FieldType)) ∈ lw_all := lw_g (lw_at lw_m15 216 rfl) rfl
theorem q3696 : (Jvm.Cond.methodLink "NoteImporterModel" (397 : Nat) ({ cls := "NoteImporterModel", name := "advance", desc := "()V" } : Jvm.MethodName)) ∈ lw_all := lw_g (lw_at lw_m15 217 rfl) rfl
theorem q3697 : (Jvm.Cond.privateMethod ({ cls := "NoteImporterModel", name := "advance", desc := "()V" } : Jvm.MethodName)) ∈ lw_tbl := lw_at lw_m15 218 rfl
theorem q3698 : (Jvm.Cond.instanceMethod ({ cls := "NoteImporterModel", name := "advance", desc := "()V" } : Jvm.MethodName)) ∈ lw_all := lw_g (lw_at lw_m15 219 rfl) rfl
theorem q3699 : (Jvm.Cond.code ({ cls := "NoteImporterModel", name := "advance", desc := "()V" } : Jvm.MethodName) prog_16_method_106_code (1 : Nat) (Option.none : Option Jvm.ClassFile.FieldType)) ∈ lw_all := lw_g (lw_at lw_m15 220 rfl) rfl
theorem q3700 : (Jvm.Cond.methodLink "NoteImporterModel" (404 : Nat) ({ cls := "NoteImporterModel", name := "parseNumber", desc := "(II)I" } : Jvm.MethodName)) ∈ lw_all := lw_g (lw_at lw_m15 221 rfl) rfl
theorem q3701 : (Jvm.Cond.privateMethod ({ cls := "NoteImporterModel", name := "parseNumber", desc := "(II)I" } : Jvm.MethodName)) ∈ lw_tbl := lw_at lw_m15 222 rfl
theorem q3702 : (Jvm.Cond.instanceMethod ({ cls := "NoteImporterModel", name := "parseNumber", desc := "(II)I" } : Jvm.MethodName)) ∈ lw_all := lw_g (lw_at lw_m15 223 rfl) rfl
theorem q3703 : (Jvm.Cond.code ({ cls := "NoteImporterModel", name := "parseNumber", desc := "(II)I" } : Jvm.MethodName) prog_16_method_107_code (4 : Nat) (Option.some Jvm.ClassFile.FieldType.int)) ∈ lw_all := lw_g (lw_at lw_m15 224 rfl) rfl
theorem q3704 : (Jvm.Cond.methodLink "NoteImporterModel" (407 : Nat) ({ cls := "NoteImporterModel", name := "requireWord", desc := "()V" } : Jvm.MethodName)) ∈ lw_all := lw_g (lw_at lw_m15 225 rfl) rfl
theorem q3705 : (Jvm.Cond.privateMethod ({ cls := "NoteImporterModel", name := "requireWord", desc := "()V" } : Jvm.MethodName)) ∈ lw_tbl := lw_at lw_m15 226 rfl
theorem q3706 : (Jvm.Cond.instanceMethod ({ cls := "NoteImporterModel", name := "requireWord", desc := "()V" } : Jvm.MethodName)) ∈ lw_all := lw_g (lw_at lw_m15 227 rfl) rfl
theorem q3707 : (Jvm.Cond.code ({ cls := "NoteImporterModel", name := "requireWord", desc := "()V" } : Jvm.MethodName) prog_16_method_109_code (1 : Nat) (Option.none : Option Jvm.ClassFile.FieldType)) ∈ lw_all := lw_g (lw_at lw_m15 228 rfl) rfl
theorem q3708 : (Jvm.Cond.stringRef "NoteImporterModel" (453 : Nat) "reader") ∈ lw_tbl := lw_at lw_m15 229 rfl
theorem q3709 : (Jvm.Cond.methodLink "NoteImporterModel" (455 : Nat) ({ cls := "NoteImporterModel", name := "parseReader", desc := "()V" } : Jvm.MethodName)) ∈ lw_all := lw_g (lw_at lw_m15 230 rfl) rfl
theorem q3710 : (Jvm.Cond.privateMethod ({ cls := "NoteImporterModel", name := "parseReader", desc := "()V" } : Jvm.MethodName)) ∈ lw_tbl := lw_at lw_m15 231 rfl
theorem q3711 : (Jvm.Cond.instanceMethod ({ cls := "NoteImporterModel", name := "parseReader", desc := "()V" } : Jvm.MethodName)) ∈ lw_all := lw_g (lw_at lw_m15 232 rfl) rfl
theorem q3712 : (Jvm.Cond.code ({ cls := "NoteImporterModel", name := "parseReader", desc := "()V" } : Jvm.MethodName) prog_16_method_111_code (2 : Nat) (Option.none : Option Jvm.ClassFile.FieldType)) ∈ lw_all := lw_g (lw_at lw_m15 233 rfl) rfl
theorem q3713 : (Jvm.Cond.stringRef "NoteImporterModel" (458 : Nat) "note") ∈ lw_tbl := lw_at lw_m15 234 rfl
theorem q3714 : (Jvm.Cond.methodLink "NoteImporterModel" (460 : Nat) ({ cls := "NoteImporterModel", name := "parseNote", desc := "()V" } : Jvm.MethodName)) ∈ lw_all := lw_g (lw_at lw_m15 235 rfl) rfl
theorem q3715 : (Jvm.Cond.privateMethod ({ cls := "NoteImporterModel", name := "parseNote", desc := "()V" } : Jvm.MethodName)) ∈ lw_tbl := lw_at lw_m15 236 rfl
theorem q3716 : (Jvm.Cond.instanceMethod ({ cls := "NoteImporterModel", name := "parseNote", desc := "()V" } : Jvm.MethodName)) ∈ lw_all := lw_g (lw_at lw_m15 237 rfl) rfl
theorem q3717 : (Jvm.Cond.code ({ cls := "NoteImporterModel", name := "parseNote", desc := "()V" } : Jvm.MethodName) prog_16_method_118_code (5 : Nat) (Option.none : Option Jvm.ClassFile.FieldType)) ∈ lw_all := lw_g (lw_at lw_m15 238 rfl) rfl
theorem q3718 : (Jvm.Cond.methodLink "NoteImporterModel" (431 : Nat) ({ cls := "NoteImporterModel", name := "parseKind", desc := "()I" } : Jvm.MethodName)) ∈ lw_all := lw_g (lw_at lw_m15 239 rfl) rfl
theorem q3719 : (Jvm.Cond.privateMethod ({ cls := "NoteImporterModel", name := "parseKind", desc := "()I" } : Jvm.MethodName)) ∈ lw_tbl := lw_at lw_m16 0 rfl
theorem q3720 : (Jvm.Cond.instanceMethod ({ cls := "NoteImporterModel", name := "parseKind", desc := "()I" } : Jvm.MethodName)) ∈ lw_all := lw_g (lw_at lw_m16 1 rfl) rfl
theorem q3721 : (Jvm.Cond.code ({ cls := "NoteImporterModel", name := "parseKind", desc := "()I" } : Jvm.MethodName) prog_16_method_112_code (2 : Nat) (Option.some Jvm.ClassFile.FieldType.int)) ∈ lw_all := lw_g (lw_at lw_m16 2 rfl) rfl
theorem q3722 : (Jvm.Cond.stringRef "NoteImporterModel" (434 : Nat) "page") ∈ lw_tbl := lw_at lw_m16 3 rfl
theorem q3723 : (Jvm.Cond.methodLink "NoteImporterModel" (436 : Nat) ({ cls := "NoteImporterModel", name := "parsePage", desc := "(I)V" } : Jvm.MethodName)) ∈ lw_all := lw_g (lw_at lw_m16 4 rfl) rfl
theorem q3724 : (Jvm.Cond.privateMethod ({ cls := "NoteImporterModel", name := "parsePage", desc := "(I)V" } : Jvm.MethodName)) ∈ lw_tbl := lw_at lw_m16 5 rfl
theorem q3725 : (Jvm.Cond.instanceMethod ({ cls := "NoteImporterModel", name := "parsePage", desc := "(I)V" } : Jvm.MethodName)) ∈ lw_all := lw_g (lw_at lw_m16 6 rfl) rfl
theorem q3726 : (Jvm.Cond.code ({ cls := "NoteImporterModel", name := "parsePage", desc := "(I)V" } : Jvm.MethodName) prog_16_method_114_code (7 : Nat) (Option.none : Option Jvm.ClassFile.FieldType)) ∈ lw_all := lw_g (lw_at lw_m16 7 rfl) rfl
theorem q3727 : (Jvm.Cond.stringRef "NoteImporterModel" (410 : Nat) "line") ∈ lw_tbl := lw_at lw_m16 8 rfl
theorem q3728 : (Jvm.Cond.methodLink "NoteImporterModel" (412 : Nat) ({ cls := "NoteImporterModel", name := "parseKey", desc := "(Ljava/lang/String;)V" } : Jvm.MethodName)) ∈ lw_all := lw_g (lw_at lw_m16 9 rfl) rfl
theorem q3729 : (Jvm.Cond.privateMethod ({ cls := "NoteImporterModel", name := "parseKey", desc := "(Ljava/lang/String;)V" } : Jvm.MethodName)) ∈ lw_tbl := lw_at lw_m16 10 rfl
theorem q3730 : (Jvm.Cond.instanceMethod ({ cls := "NoteImporterModel", name := "parseKey", desc := "(Ljava/lang/String;)V" } : Jvm.MethodName)) ∈ lw_all := lw_g (lw_at lw_m16 11 rfl) rfl
theorem q3731 : (Jvm.Cond.code ({ cls := "NoteImporterModel", name := "parseKey", desc := "(Ljava/lang/String;)V" } : Jvm.MethodName) prog_16_method_108_code (2 : Nat) (Option.none : Option Jvm.ClassFile.FieldType)) ∈ lw_all := lw_g (lw_at lw_m16 12 rfl) rfl
theorem q3732 : (Jvm.Cond.stringRef "NoteImporterModel" (416 : Nat) "word") ∈ lw_tbl := lw_at lw_m16 13 rfl
theorem q3733 : (Jvm.Cond.methodLink "NoteImporterModel" (417 : Nat) ({ cls := "NoteImporterModel", name := "firstInLine", desc := "(II)I" } : Jvm.MethodName)) ∈ lw_all := lw_g (lw_at lw_m16 14 rfl) rfl
theorem q3734 : (Jvm.Cond.privateMethod ({ cls := "NoteImporterModel", name := "firstInLine", desc := "(II)I" } : Jvm.MethodName)) ∈ lw_tbl := lw_at lw_m16 15 rfl
theorem q3735 : (Jvm.Cond.instanceMethod ({ cls := "NoteImporterModel", name := "firstInLine", desc := "(II)I" } : Jvm.MethodName)) ∈ lw_all := lw_g (lw_at lw_m16 16 rfl) rfl
theorem q3736 : (Jvm.Cond.code ({ cls := "NoteImporterModel", name := "firstInLine", desc := "(II)I" } : Jvm.MethodName) prog_16_method_113_code (4 : Nat) (Option.some Jvm.ClassFile.FieldType.int)) ∈ lw_all := lw_g (lw_at lw_m16 17 rfl) rfl
theorem q3737 : (Jvm.Cond.stringRef "NoteImporterModel" (423 : Nat) "count") ∈ lw_tbl := lw_at lw_m16 18 rfl
theorem q3738 : (Jvm.Cond.stringRef "NoteImporterModel" (439 : Nat) "quote") ∈ lw_tbl := lw_at lw_m16 19 rfl
theorem q3739 : (Jvm.Cond.methodLink "NoteImporterModel" (441 : Nat) ({ cls := "NoteImporterModel", name := "parseQuote", desc := "(I)V" } : Jvm.MethodName)) ∈ lw_all := lw_g (lw_at lw_m16 20 rfl) rfl
theorem q3740 : (Jvm.Cond.privateMethod ({ cls := "NoteImporterModel", name := "parseQuote", desc := "(I)V" } : Jvm.MethodName)) ∈ lw_tbl := lw_at lw_m16 21 rfl
theorem q3741 : (Jvm.Cond.instanceMethod ({ cls := "NoteImporterModel", name := "parseQuote", desc := "(I)V" } : Jvm.MethodName)) ∈ lw_all := lw_g (lw_at lw_m16 22 rfl) rfl
theorem q3742 : (Jvm.Cond.code ({ cls := "NoteImporterModel", name := "parseQuote", desc := "(I)V" } : Jvm.MethodName) prog_16_method_116_code (3 : Nat) (Option.none : Option Jvm.ClassFile.FieldType)) ∈ lw_all := lw_g (lw_at lw_m16 23 rfl) rfl
theorem q3743 : (Jvm.Cond.methodLink "NoteImporterModel" (428 : Nat) ({ cls := "NoteImporterModel", name := "standsAt", desc := "(II)Z" } : Jvm.MethodName)) ∈ lw_all := lw_g (lw_at lw_m16 24 rfl) rfl
theorem q3744 : (Jvm.Cond.privateMethod ({ cls := "NoteImporterModel", name := "standsAt", desc := "(II)Z" } : Jvm.MethodName)) ∈ lw_tbl := lw_at lw_m16 25 rfl
theorem q3745 : (Jvm.Cond.instanceMethod ({ cls := "NoteImporterModel", name := "standsAt", desc := "(II)Z" } : Jvm.MethodName)) ∈ lw_all := lw_g (lw_at lw_m16 26 rfl) rfl
theorem q3746 : (Jvm.Cond.code ({ cls := "NoteImporterModel", name := "standsAt", desc := "(II)Z" } : Jvm.MethodName) prog_16_method_115_code (5 : Nat) (Option.some Jvm.ClassFile.FieldType.boolean)) ∈ lw_all := lw_g (lw_at lw_m16 27 rfl) rfl
theorem q3747 : (Jvm.Cond.stringRef "NoteImporterModel" (444 : Nat) "says") ∈ lw_tbl := lw_at lw_m16 28 rfl
theorem q3748 : (Jvm.Cond.methodLink "NoteImporterModel" (445 : Nat) ({ cls := "NoteImporterModel", name := "parseSaid", desc := "(I)V" } : Jvm.MethodName)) ∈ lw_all := lw_g (lw_at lw_m16 29 rfl) rfl
theorem q3749 : (Jvm.Cond.privateMethod ({ cls := "NoteImporterModel", name := "parseSaid", desc := "(I)V" } : Jvm.MethodName)) ∈ lw_tbl := lw_at lw_m16 30 rfl
theorem q3750 : (Jvm.Cond.instanceMethod ({ cls := "NoteImporterModel", name := "parseSaid", desc := "(I)V" } : Jvm.MethodName)) ∈ lw_all := lw_g (lw_at lw_m16 31 rfl) rfl
theorem q3751 : (Jvm.Cond.code ({ cls := "NoteImporterModel", name := "parseSaid", desc := "(I)V" } : Jvm.MethodName) prog_16_method_117_code (3 : Nat) (Option.none : Option Jvm.ClassFile.FieldType)) ∈ lw_all := lw_g (lw_at lw_m16 32 rfl) rfl
theorem q3752 : (Jvm.Cond.stringRef "NoteImporterModel" (463 : Nat) "target") ∈ lw_tbl := lw_at lw_m16 33 rfl
theorem q3754 : (Jvm.Cond.instanceMethod ({ cls := "NoteImporterModel", name := "errorCode", desc := "()I" } : Jvm.MethodName)) ∈ lw_all := lw_g (lw_at lw_m16 35 rfl) rfl
theorem q3755 : (Jvm.Cond.selects "NoteImporterModel" ({ cls := "NoteImporterModel", name := "errorCode", desc := "()I" } : Jvm.MethodName) ({ cls := "NoteImporterModel", name := "errorCode", desc := "()I" } : Jvm.MethodName)) ∈ lw_all := lw_g (lw_at lw_m16 36 rfl) rfl
theorem q3756 : (Jvm.Cond.code ({ cls := "NoteImporterModel", name := "errorCode", desc := "()I" } : Jvm.MethodName) prog_16_method_121_code (1 : Nat) (Option.some Jvm.ClassFile.FieldType.int)) ∈ lw_all := lw_g (lw_at lw_m16 37 rfl) rfl
theorem q3758 : (Jvm.Cond.instanceMethod ({ cls := "NoteImporterModel", name := "errorPosition", desc := "()I" } : Jvm.MethodName)) ∈ lw_all := lw_g (lw_at lw_m16 39 rfl) rfl
theorem q3759 : (Jvm.Cond.selects "NoteImporterModel" ({ cls := "NoteImporterModel", name := "errorPosition", desc := "()I" } : Jvm.MethodName) ({ cls := "NoteImporterModel", name := "errorPosition", desc := "()I" } : Jvm.MethodName)) ∈ lw_all := lw_g (lw_at lw_m16 40 rfl) rfl
theorem q3760 : (Jvm.Cond.code ({ cls := "NoteImporterModel", name := "errorPosition", desc := "()I" } : Jvm.MethodName) prog_16_method_122_code (1 : Nat) (Option.some Jvm.ClassFile.FieldType.int)) ∈ lw_all := lw_g (lw_at lw_m16 41 rfl) rfl
theorem q3762 : (Jvm.Cond.instanceMethod ({ cls := "NoteImporterModel", name := "save", desc := "(I)V" } : Jvm.MethodName)) ∈ lw_all := lw_g (lw_at lw_m16 43 rfl) rfl
theorem q3763 : (Jvm.Cond.selects "NoteImporterModel" ({ cls := "NoteImporterModel", name := "save", desc := "(I)V" } : Jvm.MethodName) ({ cls := "NoteImporterModel", name := "save", desc := "(I)V" } : Jvm.MethodName)) ∈ lw_all := lw_g (lw_at lw_m16 44 rfl) rfl
theorem q3764 : (Jvm.Cond.code ({ cls := "NoteImporterModel", name := "save", desc := "(I)V" } : Jvm.MethodName) prog_16_method_123_code (2 : Nat) (Option.none : Option Jvm.ClassFile.FieldType)) ∈ lw_all := lw_g (lw_at lw_m16 45 rfl) rfl
theorem q3766 : (Jvm.Cond.instanceMethod ({ cls := "NoteImporterModel", name := "restore", desc := "(I)V" } : Jvm.MethodName)) ∈ lw_all := lw_g (lw_at lw_m16 47 rfl) rfl
theorem q3767 : (Jvm.Cond.selects "NoteImporterModel" ({ cls := "NoteImporterModel", name := "restore", desc := "(I)V" } : Jvm.MethodName) ({ cls := "NoteImporterModel", name := "restore", desc := "(I)V" } : Jvm.MethodName)) ∈ lw_all := lw_g (lw_at lw_m16 48 rfl) rfl
theorem q3768 : (Jvm.Cond.code ({ cls := "NoteImporterModel", name := "restore", desc := "(I)V" } : Jvm.MethodName) prog_16_method_124_code (2 : Nat) (Option.none : Option Jvm.ClassFile.FieldType)) ∈ lw_all := lw_g (lw_at lw_m16 49 rfl) rfl
theorem q3801 : (Jvm.Cond.castable "NoteImporterModel" "java/lang/Object") ∈ lw_tbl := lw_at lw_m16 82 rfl
theorem in_X3 : ∀ w ∈ wsX30, w ∈ lw_all := lw_in wsX30 [3175, 3177, 3179, 3181, 3183, 3185, 3187, 3189, 3191, 3193, 3195, 3197, 3199, 3201, 3203, 3205, 3207, 3209, 3211, 3213, 3215, 3217, 3219, 3221, 3223, 3225, 3227, 3229, 3231, 3233, 3235, 3237, 3239, 3241, 3243, 3245, 3247, 3249, 3251, 3253, 3255, 3257, 3259, 3261, 3263] (by decide +kernel) (by decide +kernel)
