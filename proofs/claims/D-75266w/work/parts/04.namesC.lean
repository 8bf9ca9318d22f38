/-! NoteImporter -/
set_option maxRecDepth 100000
def RX1 : String := "NoteImporter"
def TX1 : u_T := fun k => match k with
  | 0 => ("NoteImporter", "now", "LNoteImporter$Library;", false)
  | 1 => ("NoteImporter", "seen", "LNoteImporter$View;", false)
  | 2 => ("NoteImporter", "saved", "[LNoteImporter$Library;", true)
  | 3 => ("NoteImporter", "text", "[B", true)
  | 4 => ("NoteImporter", "textLength", "I", false)
  | 5 => ("NoteImporter", "output", "Ljava/lang/StringBuilder;", true)
  | 6 => ("NoteImporter", "errorCode", "I", false)
  | _ => ("NoteImporter", "errorPosition", "I", false)
def tyX1 : Nat → FieldType := fun k => match k with
  | 0 => .object "NoteImporter$Library"
  | 1 => .object "NoteImporter$View"
  | 2 => .array (.object "NoteImporter$Library")
  | 3 => .array .byte
  | 4 => .int
  | 5 => .object "java/lang/StringBuilder"
  | 6 => .int
  | _ => .int
abbrev wsX10 : List Cond := u_ws RX1 TX1 8
theorem nmX1 : ∀ a, a < 8 → ∀ b, b < 8 → a ≠ b → (TX1 a).2.1 ≠ (TX1 b).2.1 := by decide +kernel
theorem tyX1_ok : ∀ k, k < 8 → parseFieldDescriptor (TX1 k).2.2.1 = some (tyX1 k) := by decide +kernel
abbrev cX1_init : ByteArray := prog_1_method_5_code
def yX1_init : MethodName := ⟨RX1, "<init>", "()V"⟩
def dkwX1_init_2 : List UInt8 := [177]
abbrev dktX1_init_2 : List UInt8 := dkwX1_init_2 ++ []
def dkwX1_init_1 : List UInt8 := [17, 3, 132, 188, 8, 181, 0, 29, 42, 187, 0, 33, 89, 183, 0, 35, 181, 0, 36, 42, 2, 181, 0, 40]
abbrev dktX1_init_1 : List UInt8 := dkwX1_init_1 ++ dktX1_init_2
def dkwX1_init_0 : List UInt8 := [42, 183, 0, 13, 42, 187, 0, 16, 89, 183, 0, 18, 181, 0, 19, 42, 5, 189, 0, 16, 181, 0, 25, 42]
abbrev dktX1_init_0 : List UInt8 := dkwX1_init_0 ++ dktX1_init_1
theorem dksX1_init_0 : cX1_init.data.toList.drop 0 = dktX1_init_0 := by decide +kernel
theorem dksX1_init_1 : cX1_init.data.toList.drop 24 = dktX1_init_1 := dk_seg dksX1_init_0 24 rfl rfl
theorem dksX1_init_2 : cX1_init.data.toList.drop 48 = dktX1_init_2 := dk_seg dksX1_init_1 24 rfl rfl
theorem dX1_init_0 : decode cX1_init 0 = .ok (.aload_n 0, 1) := dk_42 (dk_at dksX1_init_0 0 rfl rfl)
theorem dX1_init_1 : decode cX1_init 1 = .ok (.invokespecial 13, 3) := dk_183 0 13 (dk_at dksX1_init_0 1 rfl rfl)
theorem dX1_init_4 : decode cX1_init 4 = .ok (.aload_n 0, 1) := dk_42 (dk_at dksX1_init_0 4 rfl rfl)
theorem dX1_init_5 : decode cX1_init 5 = .ok (.new 16, 3) := dk_187 0 16 (dk_at dksX1_init_0 5 rfl rfl)
theorem dX1_init_8 : decode cX1_init 8 = .ok (.dup, 1) := dk_89 (dk_at dksX1_init_0 8 rfl rfl)
theorem dX1_init_9 : decode cX1_init 9 = .ok (.invokespecial 18, 3) := dk_183 0 18 (dk_at dksX1_init_0 9 rfl rfl)
theorem dX1_init_12 : decode cX1_init 12 = .ok (.putfield 19, 3) := dk_181 0 19 (dk_at dksX1_init_0 12 rfl rfl)
theorem dX1_init_15 : decode cX1_init 15 = .ok (.aload_n 0, 1) := dk_42 (dk_at dksX1_init_0 15 rfl rfl)
theorem dX1_init_16 : decode cX1_init 16 = .ok (.iconst 2, 1) := dk_5 (dk_at dksX1_init_0 16 rfl rfl)
theorem dX1_init_17 : decode cX1_init 17 = .ok (.anewarray 16, 3) := dk_189 0 16 (dk_at dksX1_init_0 17 rfl rfl)
theorem dX1_init_20 : decode cX1_init 20 = .ok (.putfield 25, 3) := dk_181 0 25 (dk_at dksX1_init_0 20 rfl rfl)
theorem dX1_init_23 : decode cX1_init 23 = .ok (.aload_n 0, 1) := dk_42 (dk_at dksX1_init_0 23 rfl rfl)
theorem dX1_init_24 : decode cX1_init 24 = .ok (.sipush 900, 3) := dk_17 3 132 (dk_at dksX1_init_1 0 rfl rfl)
theorem dX1_init_27 : decode cX1_init 27 = .ok (.newarray .byte, 2) := dk_188_8 (dk_at dksX1_init_1 3 rfl rfl)
theorem dX1_init_29 : decode cX1_init 29 = .ok (.putfield 29, 3) := dk_181 0 29 (dk_at dksX1_init_1 5 rfl rfl)
theorem dX1_init_32 : decode cX1_init 32 = .ok (.aload_n 0, 1) := dk_42 (dk_at dksX1_init_1 8 rfl rfl)
theorem dX1_init_33 : decode cX1_init 33 = .ok (.new 33, 3) := dk_187 0 33 (dk_at dksX1_init_1 9 rfl rfl)
theorem dX1_init_36 : decode cX1_init 36 = .ok (.dup, 1) := dk_89 (dk_at dksX1_init_1 12 rfl rfl)
theorem dX1_init_37 : decode cX1_init 37 = .ok (.invokespecial 35, 3) := dk_183 0 35 (dk_at dksX1_init_1 13 rfl rfl)
theorem dX1_init_40 : decode cX1_init 40 = .ok (.putfield 36, 3) := dk_181 0 36 (dk_at dksX1_init_1 16 rfl rfl)
theorem dX1_init_43 : decode cX1_init 43 = .ok (.aload_n 0, 1) := dk_42 (dk_at dksX1_init_1 19 rfl rfl)
theorem dX1_init_44 : decode cX1_init 44 = .ok (.iconst (-1), 1) := dk_2 (dk_at dksX1_init_1 20 rfl rfl)
theorem dX1_init_45 : decode cX1_init 45 = .ok (.putfield 40, 3) := dk_181 0 40 (dk_at dksX1_init_1 21 rfl rfl)
theorem dX1_init_48 : decode cX1_init 48 = .ok (.return_, 1) := dk_177 (dk_at dksX1_init_2 0 rfl rfl)
abbrev cX1_strongestGroup : ByteArray := prog_1_method_41_code
def yX1_strongestGroup : MethodName := ⟨RX1, "strongestGroup", "()I"⟩
def dkwX1_strongestGroup_4 : List UInt8 := [164, 0, 7, 45, 167, 0, 4, 43, 76, 167, 255, 193, 43, 180, 1, 111, 172]
abbrev dktX1_strongestGroup_4 : List UInt8 := dkwX1_strongestGroup_4 ++ []
def dkwX1_strongestGroup_3 : List UInt8 := [21, 4, 157, 0, 25, 21, 4, 154, 0, 24, 45, 180, 1, 96, 182, 0, 57, 43, 180, 1, 96, 182, 0, 57]
abbrev dktX1_strongestGroup_3 : List UInt8 := dkwX1_strongestGroup_3 ++ dktX1_strongestGroup_4
def dkwX1_strongestGroup_2 : List UInt8 := [153, 0, 60, 44, 185, 0, 184, 1, 0, 192, 1, 90, 78, 45, 182, 1, 108, 43, 182, 1, 108, 100, 54, 4]
abbrev dktX1_strongestGroup_2 : List UInt8 := dkwX1_strongestGroup_2 ++ dktX1_strongestGroup_3
def dkwX1_strongestGroup_1 : List UInt8 := [182, 0, 71, 192, 1, 90, 76, 42, 182, 0, 155, 180, 0, 159, 182, 0, 175, 77, 44, 185, 0, 179, 1, 0]
abbrev dktX1_strongestGroup_1 : List UInt8 := dkwX1_strongestGroup_1 ++ dktX1_strongestGroup_2
def dkwX1_strongestGroup_0 : List UInt8 := [42, 180, 0, 19, 180, 0, 148, 182, 0, 151, 153, 0, 5, 2, 172, 42, 182, 0, 155, 180, 0, 159, 3]
abbrev dktX1_strongestGroup_0 : List UInt8 := dkwX1_strongestGroup_0 ++ dktX1_strongestGroup_1
theorem dksX1_strongestGroup_0 : cX1_strongestGroup.data.toList.drop 0 = dktX1_strongestGroup_0 := by decide +kernel
theorem dksX1_strongestGroup_1 : cX1_strongestGroup.data.toList.drop 23 = dktX1_strongestGroup_1 := dk_seg dksX1_strongestGroup_0 23 rfl rfl
theorem dksX1_strongestGroup_2 : cX1_strongestGroup.data.toList.drop 47 = dktX1_strongestGroup_2 := dk_seg dksX1_strongestGroup_1 24 rfl rfl
theorem dksX1_strongestGroup_3 : cX1_strongestGroup.data.toList.drop 71 = dktX1_strongestGroup_3 := dk_seg dksX1_strongestGroup_2 24 rfl rfl
theorem dksX1_strongestGroup_4 : cX1_strongestGroup.data.toList.drop 95 = dktX1_strongestGroup_4 := dk_seg dksX1_strongestGroup_3 24 rfl rfl
theorem dX1_strongestGroup_0 : decode cX1_strongestGroup 0 = .ok (.aload_n 0, 1) := dk_42 (dk_at dksX1_strongestGroup_0 0 rfl rfl)
theorem dX1_strongestGroup_1 : decode cX1_strongestGroup 1 = .ok (.getfield 19, 3) := dk_180 0 19 (dk_at dksX1_strongestGroup_0 1 rfl rfl)
theorem dX1_strongestGroup_4 : decode cX1_strongestGroup 4 = .ok (.getfield 148, 3) := dk_180 0 148 (dk_at dksX1_strongestGroup_0 4 rfl rfl)
theorem dX1_strongestGroup_7 : decode cX1_strongestGroup 7 = .ok (.invokevirtual 151, 3) := dk_182 0 151 (dk_at dksX1_strongestGroup_0 7 rfl rfl)
theorem dX1_strongestGroup_10 : decode cX1_strongestGroup 10 = .ok (.ifCond .eq 5, 3) := dk_153 0 5 (dk_at dksX1_strongestGroup_0 10 rfl rfl)
theorem dX1_strongestGroup_13 : decode cX1_strongestGroup 13 = .ok (.iconst (-1), 1) := dk_2 (dk_at dksX1_strongestGroup_0 13 rfl rfl)
theorem dX1_strongestGroup_14 : decode cX1_strongestGroup 14 = .ok (.ireturn, 1) := dk_172 (dk_at dksX1_strongestGroup_0 14 rfl rfl)
theorem dX1_strongestGroup_15 : decode cX1_strongestGroup 15 = .ok (.aload_n 0, 1) := dk_42 (dk_at dksX1_strongestGroup_0 15 rfl rfl)
theorem dX1_strongestGroup_16 : decode cX1_strongestGroup 16 = .ok (.invokevirtual 155, 3) := dk_182 0 155 (dk_at dksX1_strongestGroup_0 16 rfl rfl)
theorem dX1_strongestGroup_19 : decode cX1_strongestGroup 19 = .ok (.getfield 159, 3) := dk_180 0 159 (dk_at dksX1_strongestGroup_0 19 rfl rfl)
theorem dX1_strongestGroup_22 : decode cX1_strongestGroup 22 = .ok (.iconst 0, 1) := dk_3 (dk_at dksX1_strongestGroup_0 22 rfl rfl)
theorem dX1_strongestGroup_23 : decode cX1_strongestGroup 23 = .ok (.invokevirtual 71, 3) := dk_182 0 71 (dk_at dksX1_strongestGroup_1 0 rfl rfl)
theorem dX1_strongestGroup_26 : decode cX1_strongestGroup 26 = .ok (.checkcast 346, 3) := dk_192 1 90 (dk_at dksX1_strongestGroup_1 3 rfl rfl)
theorem dX1_strongestGroup_29 : decode cX1_strongestGroup 29 = .ok (.astore_n 1, 1) := dk_76 (dk_at dksX1_strongestGroup_1 6 rfl rfl)
theorem dX1_strongestGroup_30 : decode cX1_strongestGroup 30 = .ok (.aload_n 0, 1) := dk_42 (dk_at dksX1_strongestGroup_1 7 rfl rfl)
theorem dX1_strongestGroup_31 : decode cX1_strongestGroup 31 = .ok (.invokevirtual 155, 3) := dk_182 0 155 (dk_at dksX1_strongestGroup_1 8 rfl rfl)
theorem dX1_strongestGroup_34 : decode cX1_strongestGroup 34 = .ok (.getfield 159, 3) := dk_180 0 159 (dk_at dksX1_strongestGroup_1 11 rfl rfl)
theorem dX1_strongestGroup_37 : decode cX1_strongestGroup 37 = .ok (.invokevirtual 175, 3) := dk_182 0 175 (dk_at dksX1_strongestGroup_1 14 rfl rfl)
theorem dX1_strongestGroup_40 : decode cX1_strongestGroup 40 = .ok (.astore_n 2, 1) := dk_77 (dk_at dksX1_strongestGroup_1 17 rfl rfl)
theorem dX1_strongestGroup_41 : decode cX1_strongestGroup 41 = .ok (.aload_n 2, 1) := dk_44 (dk_at dksX1_strongestGroup_1 18 rfl rfl)
theorem dX1_strongestGroup_42 : decode cX1_strongestGroup 42 = .ok (.invokeinterface 179 1, 5) := by decide +kernel
theorem dX1_strongestGroup_47 : decode cX1_strongestGroup 47 = .ok (.ifCond .eq 60, 3) := dk_153 0 60 (dk_at dksX1_strongestGroup_2 0 rfl rfl)
theorem dX1_strongestGroup_50 : decode cX1_strongestGroup 50 = .ok (.aload_n 2, 1) := dk_44 (dk_at dksX1_strongestGroup_2 3 rfl rfl)
theorem dX1_strongestGroup_51 : decode cX1_strongestGroup 51 = .ok (.invokeinterface 184 1, 5) := by decide +kernel
theorem dX1_strongestGroup_56 : decode cX1_strongestGroup 56 = .ok (.checkcast 346, 3) := dk_192 1 90 (dk_at dksX1_strongestGroup_2 9 rfl rfl)
theorem dX1_strongestGroup_59 : decode cX1_strongestGroup 59 = .ok (.astore_n 3, 1) := dk_78 (dk_at dksX1_strongestGroup_2 12 rfl rfl)
theorem dX1_strongestGroup_60 : decode cX1_strongestGroup 60 = .ok (.aload_n 3, 1) := dk_45 (dk_at dksX1_strongestGroup_2 13 rfl rfl)
theorem dX1_strongestGroup_61 : decode cX1_strongestGroup 61 = .ok (.invokevirtual 364, 3) := dk_182 1 108 (dk_at dksX1_strongestGroup_2 14 rfl rfl)
theorem dX1_strongestGroup_64 : decode cX1_strongestGroup 64 = .ok (.aload_n 1, 1) := dk_43 (dk_at dksX1_strongestGroup_2 17 rfl rfl)
theorem dX1_strongestGroup_65 : decode cX1_strongestGroup 65 = .ok (.invokevirtual 364, 3) := dk_182 1 108 (dk_at dksX1_strongestGroup_2 18 rfl rfl)
theorem dX1_strongestGroup_68 : decode cX1_strongestGroup 68 = .ok (.isub, 1) := dk_100 (dk_at dksX1_strongestGroup_2 21 rfl rfl)
theorem dX1_strongestGroup_69 : decode cX1_strongestGroup 69 = .ok (.istore 4, 2) := dk_54 4 (dk_at dksX1_strongestGroup_2 22 rfl rfl)
theorem dX1_strongestGroup_71 : decode cX1_strongestGroup 71 = .ok (.iload 4, 2) := dk_21 4 (dk_at dksX1_strongestGroup_3 0 rfl rfl)
theorem dX1_strongestGroup_73 : decode cX1_strongestGroup 73 = .ok (.ifCond .gt 25, 3) := dk_157 0 25 (dk_at dksX1_strongestGroup_3 2 rfl rfl)
theorem dX1_strongestGroup_76 : decode cX1_strongestGroup 76 = .ok (.iload 4, 2) := dk_21 4 (dk_at dksX1_strongestGroup_3 5 rfl rfl)
theorem dX1_strongestGroup_78 : decode cX1_strongestGroup 78 = .ok (.ifCond .ne 24, 3) := dk_154 0 24 (dk_at dksX1_strongestGroup_3 7 rfl rfl)
theorem dX1_strongestGroup_81 : decode cX1_strongestGroup 81 = .ok (.aload_n 3, 1) := dk_45 (dk_at dksX1_strongestGroup_3 10 rfl rfl)
theorem dX1_strongestGroup_82 : decode cX1_strongestGroup 82 = .ok (.getfield 352, 3) := dk_180 1 96 (dk_at dksX1_strongestGroup_3 11 rfl rfl)
theorem dX1_strongestGroup_85 : decode cX1_strongestGroup 85 = .ok (.invokevirtual 57, 3) := dk_182 0 57 (dk_at dksX1_strongestGroup_3 14 rfl rfl)
theorem dX1_strongestGroup_88 : decode cX1_strongestGroup 88 = .ok (.aload_n 1, 1) := dk_43 (dk_at dksX1_strongestGroup_3 17 rfl rfl)
theorem dX1_strongestGroup_89 : decode cX1_strongestGroup 89 = .ok (.getfield 352, 3) := dk_180 1 96 (dk_at dksX1_strongestGroup_3 18 rfl rfl)
theorem dX1_strongestGroup_92 : decode cX1_strongestGroup 92 = .ok (.invokevirtual 57, 3) := dk_182 0 57 (dk_at dksX1_strongestGroup_3 21 rfl rfl)
theorem dX1_strongestGroup_95 : decode cX1_strongestGroup 95 = .ok (.if_icmp .le 7, 3) := dk_164 0 7 (dk_at dksX1_strongestGroup_4 0 rfl rfl)
theorem dX1_strongestGroup_98 : decode cX1_strongestGroup 98 = .ok (.aload_n 3, 1) := dk_45 (dk_at dksX1_strongestGroup_4 3 rfl rfl)
theorem dX1_strongestGroup_99 : decode cX1_strongestGroup 99 = .ok (.goto 4, 3) := dk_167 0 4 (dk_at dksX1_strongestGroup_4 4 rfl rfl)
theorem dX1_strongestGroup_102 : decode cX1_strongestGroup 102 = .ok (.aload_n 1, 1) := dk_43 (dk_at dksX1_strongestGroup_4 7 rfl rfl)
theorem dX1_strongestGroup_103 : decode cX1_strongestGroup 103 = .ok (.astore_n 1, 1) := dk_76 (dk_at dksX1_strongestGroup_4 8 rfl rfl)
theorem dX1_strongestGroup_104 : decode cX1_strongestGroup 104 = .ok (.goto (-63), 3) := dk_167 255 193 (dk_at dksX1_strongestGroup_4 9 rfl rfl)
theorem dX1_strongestGroup_107 : decode cX1_strongestGroup 107 = .ok (.aload_n 1, 1) := dk_43 (dk_at dksX1_strongestGroup_4 12 rfl rfl)
theorem dX1_strongestGroup_108 : decode cX1_strongestGroup 108 = .ok (.getfield 367, 3) := dk_180 1 111 (dk_at dksX1_strongestGroup_4 13 rfl rfl)
theorem dX1_strongestGroup_111 : decode cX1_strongestGroup 111 = .ok (.ireturn, 1) := dk_172 (dk_at dksX1_strongestGroup_4 16 rfl rfl)
abbrev cX1_view : ByteArray := prog_1_method_6_code
def yX1_view : MethodName := ⟨RX1, "view", "()LNoteImporter$View;"⟩
def dkwX1_view_1 : List UInt8 := [180, 0, 44, 176]
abbrev dktX1_view_1 : List UInt8 := dkwX1_view_1 ++ []
def dkwX1_view_0 : List UInt8 := [42, 180, 0, 44, 199, 0, 18, 42, 187, 0, 48, 89, 42, 180, 0, 19, 183, 0, 50, 181, 0, 44, 42]
abbrev dktX1_view_0 : List UInt8 := dkwX1_view_0 ++ dktX1_view_1
theorem dksX1_view_0 : cX1_view.data.toList.drop 0 = dktX1_view_0 := by decide +kernel
theorem dksX1_view_1 : cX1_view.data.toList.drop 23 = dktX1_view_1 := dk_seg dksX1_view_0 23 rfl rfl
theorem dX1_view_0 : decode cX1_view 0 = .ok (.aload_n 0, 1) := dk_42 (dk_at dksX1_view_0 0 rfl rfl)
theorem dX1_view_1 : decode cX1_view 1 = .ok (.getfield 44, 3) := dk_180 0 44 (dk_at dksX1_view_0 1 rfl rfl)
theorem dX1_view_4 : decode cX1_view 4 = .ok (.ifnonnull 18, 3) := dk_199 0 18 (dk_at dksX1_view_0 4 rfl rfl)
theorem dX1_view_7 : decode cX1_view 7 = .ok (.aload_n 0, 1) := dk_42 (dk_at dksX1_view_0 7 rfl rfl)
theorem dX1_view_8 : decode cX1_view 8 = .ok (.new 48, 3) := dk_187 0 48 (dk_at dksX1_view_0 8 rfl rfl)
theorem dX1_view_11 : decode cX1_view 11 = .ok (.dup, 1) := dk_89 (dk_at dksX1_view_0 11 rfl rfl)
theorem dX1_view_12 : decode cX1_view 12 = .ok (.aload_n 0, 1) := dk_42 (dk_at dksX1_view_0 12 rfl rfl)
theorem dX1_view_13 : decode cX1_view 13 = .ok (.getfield 19, 3) := dk_180 0 19 (dk_at dksX1_view_0 13 rfl rfl)
theorem dX1_view_16 : decode cX1_view 16 = .ok (.invokespecial 50, 3) := dk_183 0 50 (dk_at dksX1_view_0 16 rfl rfl)
theorem dX1_view_19 : decode cX1_view 19 = .ok (.putfield 44, 3) := dk_181 0 44 (dk_at dksX1_view_0 19 rfl rfl)
theorem dX1_view_22 : decode cX1_view 22 = .ok (.aload_n 0, 1) := dk_42 (dk_at dksX1_view_0 22 rfl rfl)
theorem dX1_view_23 : decode cX1_view 23 = .ok (.getfield 44, 3) := dk_180 0 44 (dk_at dksX1_view_1 0 rfl rfl)
theorem dX1_view_26 : decode cX1_view 26 = .ok (.areturn, 1) := dk_176 (dk_at dksX1_view_1 3 rfl rfl)
abbrev cX1_hottestPage : ByteArray := prog_1_method_43_code
def yX1_hottestPage : MethodName := ⟨RX1, "hottestPage", "()I"⟩
def dkwX1_hottestPage_4 : List UInt8 := [167, 255, 229, 29, 172]
abbrev dktX1_hottestPage_4 : List UInt8 := dkwX1_hottestPage_4 ++ []
def dkwX1_hottestPage_3 : List UInt8 := [190, 162, 0, 26, 44, 21, 4, 46, 44, 29, 46, 164, 0, 8, 21, 4, 167, 0, 4, 29, 62, 132, 4, 1]
abbrev dktX1_hottestPage_3 : List UInt8 := dkwX1_hottestPage_3 ++ dktX1_hottestPage_4
def dkwX1_hottestPage_2 : List UInt8 := [42, 182, 0, 155, 29, 182, 1, 118, 96, 79, 132, 3, 1, 167, 255, 227, 3, 62, 4, 54, 4, 21, 4, 44]
abbrev dktX1_hottestPage_2 : List UInt8 := dkwX1_hottestPage_2 ++ dktX1_hottestPage_3
def dkwX1_hottestPage_1 : List UInt8 := [182, 0, 208, 188, 10, 77, 3, 62, 29, 43, 182, 0, 188, 162, 0, 27, 44, 43, 29, 182, 0, 220, 92, 46]
abbrev dktX1_hottestPage_1 : List UInt8 := dkwX1_hottestPage_1 ++ dktX1_hottestPage_2
def dkwX1_hottestPage_0 : List UInt8 := [42, 180, 0, 19, 180, 0, 53, 182, 0, 151, 153, 0, 5, 2, 172, 42, 180, 0, 19, 182, 1, 114, 76, 43]
abbrev dktX1_hottestPage_0 : List UInt8 := dkwX1_hottestPage_0 ++ dktX1_hottestPage_1
theorem dksX1_hottestPage_0 : cX1_hottestPage.data.toList.drop 0 = dktX1_hottestPage_0 := by decide +kernel
theorem dksX1_hottestPage_1 : cX1_hottestPage.data.toList.drop 24 = dktX1_hottestPage_1 := dk_seg dksX1_hottestPage_0 24 rfl rfl
theorem dksX1_hottestPage_2 : cX1_hottestPage.data.toList.drop 48 = dktX1_hottestPage_2 := dk_seg dksX1_hottestPage_1 24 rfl rfl
theorem dksX1_hottestPage_3 : cX1_hottestPage.data.toList.drop 72 = dktX1_hottestPage_3 := dk_seg dksX1_hottestPage_2 24 rfl rfl
theorem dksX1_hottestPage_4 : cX1_hottestPage.data.toList.drop 96 = dktX1_hottestPage_4 := dk_seg dksX1_hottestPage_3 24 rfl rfl
theorem dX1_hottestPage_0 : decode cX1_hottestPage 0 = .ok (.aload_n 0, 1) := dk_42 (dk_at dksX1_hottestPage_0 0 rfl rfl)
theorem dX1_hottestPage_1 : decode cX1_hottestPage 1 = .ok (.getfield 19, 3) := dk_180 0 19 (dk_at dksX1_hottestPage_0 1 rfl rfl)
theorem dX1_hottestPage_4 : decode cX1_hottestPage 4 = .ok (.getfield 53, 3) := dk_180 0 53 (dk_at dksX1_hottestPage_0 4 rfl rfl)
theorem dX1_hottestPage_7 : decode cX1_hottestPage 7 = .ok (.invokevirtual 151, 3) := dk_182 0 151 (dk_at dksX1_hottestPage_0 7 rfl rfl)
theorem dX1_hottestPage_10 : decode cX1_hottestPage 10 = .ok (.ifCond .eq 5, 3) := dk_153 0 5 (dk_at dksX1_hottestPage_0 10 rfl rfl)
theorem dX1_hottestPage_13 : decode cX1_hottestPage 13 = .ok (.iconst (-1), 1) := dk_2 (dk_at dksX1_hottestPage_0 13 rfl rfl)
theorem dX1_hottestPage_14 : decode cX1_hottestPage 14 = .ok (.ireturn, 1) := dk_172 (dk_at dksX1_hottestPage_0 14 rfl rfl)
theorem dX1_hottestPage_15 : decode cX1_hottestPage 15 = .ok (.aload_n 0, 1) := dk_42 (dk_at dksX1_hottestPage_0 15 rfl rfl)
theorem dX1_hottestPage_16 : decode cX1_hottestPage 16 = .ok (.getfield 19, 3) := dk_180 0 19 (dk_at dksX1_hottestPage_0 16 rfl rfl)
theorem dX1_hottestPage_19 : decode cX1_hottestPage 19 = .ok (.invokevirtual 370, 3) := dk_182 1 114 (dk_at dksX1_hottestPage_0 19 rfl rfl)
theorem dX1_hottestPage_22 : decode cX1_hottestPage 22 = .ok (.astore_n 1, 1) := dk_76 (dk_at dksX1_hottestPage_0 22 rfl rfl)
theorem dX1_hottestPage_23 : decode cX1_hottestPage 23 = .ok (.aload_n 1, 1) := dk_43 (dk_at dksX1_hottestPage_0 23 rfl rfl)
theorem dX1_hottestPage_24 : decode cX1_hottestPage 24 = .ok (.invokevirtual 208, 3) := dk_182 0 208 (dk_at dksX1_hottestPage_1 0 rfl rfl)
theorem dX1_hottestPage_27 : decode cX1_hottestPage 27 = .ok (.newarray .int, 2) := dk_188_10 (dk_at dksX1_hottestPage_1 3 rfl rfl)
theorem dX1_hottestPage_29 : decode cX1_hottestPage 29 = .ok (.astore_n 2, 1) := dk_77 (dk_at dksX1_hottestPage_1 5 rfl rfl)
theorem dX1_hottestPage_30 : decode cX1_hottestPage 30 = .ok (.iconst 0, 1) := dk_3 (dk_at dksX1_hottestPage_1 6 rfl rfl)
theorem dX1_hottestPage_31 : decode cX1_hottestPage 31 = .ok (.istore_n 3, 1) := dk_62 (dk_at dksX1_hottestPage_1 7 rfl rfl)
theorem dX1_hottestPage_32 : decode cX1_hottestPage 32 = .ok (.iload_n 3, 1) := dk_29 (dk_at dksX1_hottestPage_1 8 rfl rfl)
theorem dX1_hottestPage_33 : decode cX1_hottestPage 33 = .ok (.aload_n 1, 1) := dk_43 (dk_at dksX1_hottestPage_1 9 rfl rfl)
theorem dX1_hottestPage_34 : decode cX1_hottestPage 34 = .ok (.invokevirtual 188, 3) := dk_182 0 188 (dk_at dksX1_hottestPage_1 10 rfl rfl)
theorem dX1_hottestPage_37 : decode cX1_hottestPage 37 = .ok (.if_icmp .ge 27, 3) := dk_162 0 27 (dk_at dksX1_hottestPage_1 13 rfl rfl)
theorem dX1_hottestPage_40 : decode cX1_hottestPage 40 = .ok (.aload_n 2, 1) := dk_44 (dk_at dksX1_hottestPage_1 16 rfl rfl)
theorem dX1_hottestPage_41 : decode cX1_hottestPage 41 = .ok (.aload_n 1, 1) := dk_43 (dk_at dksX1_hottestPage_1 17 rfl rfl)
theorem dX1_hottestPage_42 : decode cX1_hottestPage 42 = .ok (.iload_n 3, 1) := dk_29 (dk_at dksX1_hottestPage_1 18 rfl rfl)
theorem dX1_hottestPage_43 : decode cX1_hottestPage 43 = .ok (.invokevirtual 220, 3) := dk_182 0 220 (dk_at dksX1_hottestPage_1 19 rfl rfl)
theorem dX1_hottestPage_46 : decode cX1_hottestPage 46 = .ok (.dup2, 1) := dk_92 (dk_at dksX1_hottestPage_1 22 rfl rfl)
theorem dX1_hottestPage_47 : decode cX1_hottestPage 47 = .ok (.iaload, 1) := dk_46 (dk_at dksX1_hottestPage_1 23 rfl rfl)
theorem dX1_hottestPage_48 : decode cX1_hottestPage 48 = .ok (.aload_n 0, 1) := dk_42 (dk_at dksX1_hottestPage_2 0 rfl rfl)
theorem dX1_hottestPage_49 : decode cX1_hottestPage 49 = .ok (.invokevirtual 155, 3) := dk_182 0 155 (dk_at dksX1_hottestPage_2 1 rfl rfl)
theorem dX1_hottestPage_52 : decode cX1_hottestPage 52 = .ok (.iload_n 3, 1) := dk_29 (dk_at dksX1_hottestPage_2 4 rfl rfl)
theorem dX1_hottestPage_53 : decode cX1_hottestPage 53 = .ok (.invokevirtual 374, 3) := dk_182 1 118 (dk_at dksX1_hottestPage_2 5 rfl rfl)
theorem dX1_hottestPage_56 : decode cX1_hottestPage 56 = .ok (.iadd, 1) := dk_96 (dk_at dksX1_hottestPage_2 8 rfl rfl)
theorem dX1_hottestPage_57 : decode cX1_hottestPage 57 = .ok (.iastore, 1) := dk_79 (dk_at dksX1_hottestPage_2 9 rfl rfl)
theorem dX1_hottestPage_58 : decode cX1_hottestPage 58 = .ok (.iinc 3 1, 3) := dk_132 3 1 (dk_at dksX1_hottestPage_2 10 rfl rfl)
theorem dX1_hottestPage_61 : decode cX1_hottestPage 61 = .ok (.goto (-29), 3) := dk_167 255 227 (dk_at dksX1_hottestPage_2 13 rfl rfl)
theorem dX1_hottestPage_64 : decode cX1_hottestPage 64 = .ok (.iconst 0, 1) := dk_3 (dk_at dksX1_hottestPage_2 16 rfl rfl)
theorem dX1_hottestPage_65 : decode cX1_hottestPage 65 = .ok (.istore_n 3, 1) := dk_62 (dk_at dksX1_hottestPage_2 17 rfl rfl)
theorem dX1_hottestPage_66 : decode cX1_hottestPage 66 = .ok (.iconst 1, 1) := dk_4 (dk_at dksX1_hottestPage_2 18 rfl rfl)
theorem dX1_hottestPage_67 : decode cX1_hottestPage 67 = .ok (.istore 4, 2) := dk_54 4 (dk_at dksX1_hottestPage_2 19 rfl rfl)
theorem dX1_hottestPage_69 : decode cX1_hottestPage 69 = .ok (.iload 4, 2) := dk_21 4 (dk_at dksX1_hottestPage_2 21 rfl rfl)
theorem dX1_hottestPage_71 : decode cX1_hottestPage 71 = .ok (.aload_n 2, 1) := dk_44 (dk_at dksX1_hottestPage_2 23 rfl rfl)
theorem dX1_hottestPage_72 : decode cX1_hottestPage 72 = .ok (.arraylength, 1) := dk_190 (dk_at dksX1_hottestPage_3 0 rfl rfl)
theorem dX1_hottestPage_73 : decode cX1_hottestPage 73 = .ok (.if_icmp .ge 26, 3) := dk_162 0 26 (dk_at dksX1_hottestPage_3 1 rfl rfl)
theorem dX1_hottestPage_76 : decode cX1_hottestPage 76 = .ok (.aload_n 2, 1) := dk_44 (dk_at dksX1_hottestPage_3 4 rfl rfl)
theorem dX1_hottestPage_77 : decode cX1_hottestPage 77 = .ok (.iload 4, 2) := dk_21 4 (dk_at dksX1_hottestPage_3 5 rfl rfl)
theorem dX1_hottestPage_79 : decode cX1_hottestPage 79 = .ok (.iaload, 1) := dk_46 (dk_at dksX1_hottestPage_3 7 rfl rfl)
theorem dX1_hottestPage_80 : decode cX1_hottestPage 80 = .ok (.aload_n 2, 1) := dk_44 (dk_at dksX1_hottestPage_3 8 rfl rfl)
theorem dX1_hottestPage_81 : decode cX1_hottestPage 81 = .ok (.iload_n 3, 1) := dk_29 (dk_at dksX1_hottestPage_3 9 rfl rfl)
theorem dX1_hottestPage_82 : decode cX1_hottestPage 82 = .ok (.iaload, 1) := dk_46 (dk_at dksX1_hottestPage_3 10 rfl rfl)
theorem dX1_hottestPage_83 : decode cX1_hottestPage 83 = .ok (.if_icmp .le 8, 3) := dk_164 0 8 (dk_at dksX1_hottestPage_3 11 rfl rfl)
theorem dX1_hottestPage_86 : decode cX1_hottestPage 86 = .ok (.iload 4, 2) := dk_21 4 (dk_at dksX1_hottestPage_3 14 rfl rfl)
theorem dX1_hottestPage_88 : decode cX1_hottestPage 88 = .ok (.goto 4, 3) := dk_167 0 4 (dk_at dksX1_hottestPage_3 16 rfl rfl)
theorem dX1_hottestPage_91 : decode cX1_hottestPage 91 = .ok (.iload_n 3, 1) := dk_29 (dk_at dksX1_hottestPage_3 19 rfl rfl)
theorem dX1_hottestPage_92 : decode cX1_hottestPage 92 = .ok (.istore_n 3, 1) := dk_62 (dk_at dksX1_hottestPage_3 20 rfl rfl)
theorem dX1_hottestPage_93 : decode cX1_hottestPage 93 = .ok (.iinc 4 1, 3) := dk_132 4 1 (dk_at dksX1_hottestPage_3 21 rfl rfl)
theorem dX1_hottestPage_96 : decode cX1_hottestPage 96 = .ok (.goto (-27), 3) := dk_167 255 229 (dk_at dksX1_hottestPage_4 0 rfl rfl)
theorem dX1_hottestPage_99 : decode cX1_hottestPage 99 = .ok (.iload_n 3, 1) := dk_29 (dk_at dksX1_hottestPage_4 3 rfl rfl)
theorem dX1_hottestPage_100 : decode cX1_hottestPage 100 = .ok (.ireturn, 1) := dk_172 (dk_at dksX1_hottestPage_4 4 rfl rfl)
abbrev cX1_isBetween : ByteArray := prog_1_method_1_code
def yX1_isBetween : MethodName := ⟨RX1, "isBetween", "(JJJ)Z"⟩
def dkwX1_isBetween_0 : List UInt8 := [30, 32, 148, 155, 0, 14, 30, 22, 4, 148, 157, 0, 7, 4, 167, 0, 4, 3, 172]
abbrev dktX1_isBetween_0 : List UInt8 := dkwX1_isBetween_0 ++ []
theorem dksX1_isBetween_0 : cX1_isBetween.data.toList.drop 0 = dktX1_isBetween_0 := by decide +kernel
theorem dX1_isBetween_0 : decode cX1_isBetween 0 = .ok (.lload_n 0, 1) := dk_30 (dk_at dksX1_isBetween_0 0 rfl rfl)
theorem dX1_isBetween_1 : decode cX1_isBetween 1 = .ok (.lload_n 2, 1) := dk_32 (dk_at dksX1_isBetween_0 1 rfl rfl)
theorem dX1_isBetween_2 : decode cX1_isBetween 2 = .ok (.lcmp, 1) := dk_148 (dk_at dksX1_isBetween_0 2 rfl rfl)
theorem dX1_isBetween_3 : decode cX1_isBetween 3 = .ok (.ifCond .lt 14, 3) := dk_155 0 14 (dk_at dksX1_isBetween_0 3 rfl rfl)
theorem dX1_isBetween_6 : decode cX1_isBetween 6 = .ok (.lload_n 0, 1) := dk_30 (dk_at dksX1_isBetween_0 6 rfl rfl)
theorem dX1_isBetween_7 : decode cX1_isBetween 7 = .ok (.lload 4, 2) := dk_22 4 (dk_at dksX1_isBetween_0 7 rfl rfl)
theorem dX1_isBetween_9 : decode cX1_isBetween 9 = .ok (.lcmp, 1) := dk_148 (dk_at dksX1_isBetween_0 9 rfl rfl)
theorem dX1_isBetween_10 : decode cX1_isBetween 10 = .ok (.ifCond .gt 7, 3) := dk_157 0 7 (dk_at dksX1_isBetween_0 10 rfl rfl)
theorem dX1_isBetween_13 : decode cX1_isBetween 13 = .ok (.iconst 1, 1) := dk_4 (dk_at dksX1_isBetween_0 13 rfl rfl)
theorem dX1_isBetween_14 : decode cX1_isBetween 14 = .ok (.goto 4, 3) := dk_167 0 4 (dk_at dksX1_isBetween_0 14 rfl rfl)
theorem dX1_isBetween_17 : decode cX1_isBetween 17 = .ok (.iconst 0, 1) := dk_3 (dk_at dksX1_isBetween_0 17 rfl rfl)
theorem dX1_isBetween_18 : decode cX1_isBetween 18 = .ok (.ireturn, 1) := dk_172 (dk_at dksX1_isBetween_0 18 rfl rfl)
abbrev cX1_overflows : ByteArray := prog_1_method_47_code
def yX1_overflows : MethodName := ⟨RX1, "overflows", "()I"⟩
def dkwX1_overflows_2 : List UInt8 := [182, 1, 114, 180, 0, 202, 46, 96, 60, 132, 2, 1, 167, 255, 204, 27, 172]
abbrev dktX1_overflows_2 : List UInt8 := dkwX1_overflows_2 ++ []
def dkwX1_overflows_1 : List UInt8 := [182, 1, 114, 182, 0, 208, 162, 0, 31, 27, 42, 182, 0, 155, 28, 182, 1, 127, 42, 180, 0, 19]
abbrev dktX1_overflows_1 : List UInt8 := dkwX1_overflows_1 ++ dktX1_overflows_2
def dkwX1_overflows_0 : List UInt8 := [3, 60, 3, 61, 42, 180, 0, 19, 180, 0, 53, 182, 0, 151, 154, 0, 45, 28, 42, 180, 0, 19]
abbrev dktX1_overflows_0 : List UInt8 := dkwX1_overflows_0 ++ dktX1_overflows_1
theorem dksX1_overflows_0 : cX1_overflows.data.toList.drop 0 = dktX1_overflows_0 := by decide +kernel
theorem dksX1_overflows_1 : cX1_overflows.data.toList.drop 22 = dktX1_overflows_1 := dk_seg dksX1_overflows_0 22 rfl rfl
theorem dksX1_overflows_2 : cX1_overflows.data.toList.drop 44 = dktX1_overflows_2 := dk_seg dksX1_overflows_1 22 rfl rfl
theorem dX1_overflows_0 : decode cX1_overflows 0 = .ok (.iconst 0, 1) := dk_3 (dk_at dksX1_overflows_0 0 rfl rfl)
theorem dX1_overflows_1 : decode cX1_overflows 1 = .ok (.istore_n 1, 1) := dk_60 (dk_at dksX1_overflows_0 1 rfl rfl)
theorem dX1_overflows_2 : decode cX1_overflows 2 = .ok (.iconst 0, 1) := dk_3 (dk_at dksX1_overflows_0 2 rfl rfl)
theorem dX1_overflows_3 : decode cX1_overflows 3 = .ok (.istore_n 2, 1) := dk_61 (dk_at dksX1_overflows_0 3 rfl rfl)
theorem dX1_overflows_4 : decode cX1_overflows 4 = .ok (.aload_n 0, 1) := dk_42 (dk_at dksX1_overflows_0 4 rfl rfl)
theorem dX1_overflows_5 : decode cX1_overflows 5 = .ok (.getfield 19, 3) := dk_180 0 19 (dk_at dksX1_overflows_0 5 rfl rfl)
theorem dX1_overflows_8 : decode cX1_overflows 8 = .ok (.getfield 53, 3) := dk_180 0 53 (dk_at dksX1_overflows_0 8 rfl rfl)
theorem dX1_overflows_11 : decode cX1_overflows 11 = .ok (.invokevirtual 151, 3) := dk_182 0 151 (dk_at dksX1_overflows_0 11 rfl rfl)
theorem dX1_overflows_14 : decode cX1_overflows 14 = .ok (.ifCond .ne 45, 3) := dk_154 0 45 (dk_at dksX1_overflows_0 14 rfl rfl)
theorem dX1_overflows_17 : decode cX1_overflows 17 = .ok (.iload_n 2, 1) := dk_28 (dk_at dksX1_overflows_0 17 rfl rfl)
theorem dX1_overflows_18 : decode cX1_overflows 18 = .ok (.aload_n 0, 1) := dk_42 (dk_at dksX1_overflows_0 18 rfl rfl)
theorem dX1_overflows_19 : decode cX1_overflows 19 = .ok (.getfield 19, 3) := dk_180 0 19 (dk_at dksX1_overflows_0 19 rfl rfl)
theorem dX1_overflows_22 : decode cX1_overflows 22 = .ok (.invokevirtual 370, 3) := dk_182 1 114 (dk_at dksX1_overflows_1 0 rfl rfl)
theorem dX1_overflows_25 : decode cX1_overflows 25 = .ok (.invokevirtual 208, 3) := dk_182 0 208 (dk_at dksX1_overflows_1 3 rfl rfl)
theorem dX1_overflows_28 : decode cX1_overflows 28 = .ok (.if_icmp .ge 31, 3) := dk_162 0 31 (dk_at dksX1_overflows_1 6 rfl rfl)
theorem dX1_overflows_31 : decode cX1_overflows 31 = .ok (.iload_n 1, 1) := dk_27 (dk_at dksX1_overflows_1 9 rfl rfl)
theorem dX1_overflows_32 : decode cX1_overflows 32 = .ok (.aload_n 0, 1) := dk_42 (dk_at dksX1_overflows_1 10 rfl rfl)
theorem dX1_overflows_33 : decode cX1_overflows 33 = .ok (.invokevirtual 155, 3) := dk_182 0 155 (dk_at dksX1_overflows_1 11 rfl rfl)
theorem dX1_overflows_36 : decode cX1_overflows 36 = .ok (.iload_n 2, 1) := dk_28 (dk_at dksX1_overflows_1 14 rfl rfl)
theorem dX1_overflows_37 : decode cX1_overflows 37 = .ok (.invokevirtual 383, 3) := dk_182 1 127 (dk_at dksX1_overflows_1 15 rfl rfl)
theorem dX1_overflows_40 : decode cX1_overflows 40 = .ok (.aload_n 0, 1) := dk_42 (dk_at dksX1_overflows_1 18 rfl rfl)
theorem dX1_overflows_41 : decode cX1_overflows 41 = .ok (.getfield 19, 3) := dk_180 0 19 (dk_at dksX1_overflows_1 19 rfl rfl)
theorem dX1_overflows_44 : decode cX1_overflows 44 = .ok (.invokevirtual 370, 3) := dk_182 1 114 (dk_at dksX1_overflows_2 0 rfl rfl)
theorem dX1_overflows_47 : decode cX1_overflows 47 = .ok (.getfield 202, 3) := dk_180 0 202 (dk_at dksX1_overflows_2 3 rfl rfl)
theorem dX1_overflows_50 : decode cX1_overflows 50 = .ok (.iaload, 1) := dk_46 (dk_at dksX1_overflows_2 6 rfl rfl)
theorem dX1_overflows_51 : decode cX1_overflows 51 = .ok (.iadd, 1) := dk_96 (dk_at dksX1_overflows_2 7 rfl rfl)
theorem dX1_overflows_52 : decode cX1_overflows 52 = .ok (.istore_n 1, 1) := dk_60 (dk_at dksX1_overflows_2 8 rfl rfl)
theorem dX1_overflows_53 : decode cX1_overflows 53 = .ok (.iinc 2 1, 3) := dk_132 2 1 (dk_at dksX1_overflows_2 9 rfl rfl)
theorem dX1_overflows_56 : decode cX1_overflows 56 = .ok (.goto (-52), 3) := dk_167 255 204 (dk_at dksX1_overflows_2 12 rfl rfl)
theorem dX1_overflows_59 : decode cX1_overflows 59 = .ok (.iload_n 1, 1) := dk_27 (dk_at dksX1_overflows_2 15 rfl rfl)
theorem dX1_overflows_60 : decode cX1_overflows 60 = .ok (.ireturn, 1) := dk_172 (dk_at dksX1_overflows_2 16 rfl rfl)
abbrev cX1_importText : ByteArray := prog_1_method_50_code
def yX1_importText : MethodName := ⟨RX1, "importText", "()I"⟩
def dkwX1_importText_3 : List UInt8 := [181, 0, 40, 2, 172]
abbrev dktX1_importText_3 : List UInt8 := dkwX1_importText_3 ++ []
def dkwX1_importText_2 : List UInt8 := [181, 0, 19, 42, 1, 181, 0, 44, 28, 172, 77, 42, 44, 180, 1, 170, 181, 1, 159, 42, 44, 180, 1, 173]
abbrev dktX1_importText_2 : List UInt8 := dkwX1_importText_2 ++ dktX1_importText_3
def dkwX1_importText_1 : List UInt8 := [181, 0, 90, 42, 3, 181, 1, 159, 42, 2, 181, 0, 40, 43, 182, 1, 162, 61, 42, 43, 180, 1, 165]
abbrev dktX1_importText_1 : List UInt8 := dkwX1_importText_1 ++ dktX1_importText_2
def dkwX1_importText_0 : List UInt8 := [187, 1, 150, 89, 42, 42, 180, 0, 90, 42, 180, 0, 19, 182, 1, 152, 183, 1, 156, 76, 42, 3]
abbrev dktX1_importText_0 : List UInt8 := dkwX1_importText_0 ++ dktX1_importText_1
theorem dksX1_importText_0 : cX1_importText.data.toList.drop 0 = dktX1_importText_0 := by decide +kernel
theorem dksX1_importText_1 : cX1_importText.data.toList.drop 22 = dktX1_importText_1 := dk_seg dksX1_importText_0 22 rfl rfl
theorem dksX1_importText_2 : cX1_importText.data.toList.drop 45 = dktX1_importText_2 := dk_seg dksX1_importText_1 23 rfl rfl
theorem dksX1_importText_3 : cX1_importText.data.toList.drop 69 = dktX1_importText_3 := dk_seg dksX1_importText_2 24 rfl rfl
theorem dX1_importText_0 : decode cX1_importText 0 = .ok (.new 406, 3) := dk_187 1 150 (dk_at dksX1_importText_0 0 rfl rfl)
theorem dX1_importText_3 : decode cX1_importText 3 = .ok (.dup, 1) := dk_89 (dk_at dksX1_importText_0 3 rfl rfl)
theorem dX1_importText_4 : decode cX1_importText 4 = .ok (.aload_n 0, 1) := dk_42 (dk_at dksX1_importText_0 4 rfl rfl)
theorem dX1_importText_5 : decode cX1_importText 5 = .ok (.aload_n 0, 1) := dk_42 (dk_at dksX1_importText_0 5 rfl rfl)
theorem dX1_importText_6 : decode cX1_importText 6 = .ok (.getfield 90, 3) := dk_180 0 90 (dk_at dksX1_importText_0 6 rfl rfl)
theorem dX1_importText_9 : decode cX1_importText 9 = .ok (.aload_n 0, 1) := dk_42 (dk_at dksX1_importText_0 9 rfl rfl)
theorem dX1_importText_10 : decode cX1_importText 10 = .ok (.getfield 19, 3) := dk_180 0 19 (dk_at dksX1_importText_0 10 rfl rfl)
theorem dX1_importText_13 : decode cX1_importText 13 = .ok (.invokevirtual 408, 3) := dk_182 1 152 (dk_at dksX1_importText_0 13 rfl rfl)
theorem dX1_importText_16 : decode cX1_importText 16 = .ok (.invokespecial 412, 3) := dk_183 1 156 (dk_at dksX1_importText_0 16 rfl rfl)
theorem dX1_importText_19 : decode cX1_importText 19 = .ok (.astore_n 1, 1) := dk_76 (dk_at dksX1_importText_0 19 rfl rfl)
theorem dX1_importText_20 : decode cX1_importText 20 = .ok (.aload_n 0, 1) := dk_42 (dk_at dksX1_importText_0 20 rfl rfl)
theorem dX1_importText_21 : decode cX1_importText 21 = .ok (.iconst 0, 1) := dk_3 (dk_at dksX1_importText_0 21 rfl rfl)
theorem dX1_importText_22 : decode cX1_importText 22 = .ok (.putfield 90, 3) := dk_181 0 90 (dk_at dksX1_importText_1 0 rfl rfl)
theorem dX1_importText_25 : decode cX1_importText 25 = .ok (.aload_n 0, 1) := dk_42 (dk_at dksX1_importText_1 3 rfl rfl)
theorem dX1_importText_26 : decode cX1_importText 26 = .ok (.iconst 0, 1) := dk_3 (dk_at dksX1_importText_1 4 rfl rfl)
theorem dX1_importText_27 : decode cX1_importText 27 = .ok (.putfield 415, 3) := dk_181 1 159 (dk_at dksX1_importText_1 5 rfl rfl)
theorem dX1_importText_30 : decode cX1_importText 30 = .ok (.aload_n 0, 1) := dk_42 (dk_at dksX1_importText_1 8 rfl rfl)
theorem dX1_importText_31 : decode cX1_importText 31 = .ok (.iconst (-1), 1) := dk_2 (dk_at dksX1_importText_1 9 rfl rfl)
theorem dX1_importText_32 : decode cX1_importText 32 = .ok (.putfield 40, 3) := dk_181 0 40 (dk_at dksX1_importText_1 10 rfl rfl)
theorem dX1_importText_35 : decode cX1_importText 35 = .ok (.aload_n 1, 1) := dk_43 (dk_at dksX1_importText_1 13 rfl rfl)
theorem dX1_importText_36 : decode cX1_importText 36 = .ok (.invokevirtual 418, 3) := dk_182 1 162 (dk_at dksX1_importText_1 14 rfl rfl)
theorem dX1_importText_39 : decode cX1_importText 39 = .ok (.istore_n 2, 1) := dk_61 (dk_at dksX1_importText_1 17 rfl rfl)
theorem dX1_importText_40 : decode cX1_importText 40 = .ok (.aload_n 0, 1) := dk_42 (dk_at dksX1_importText_1 18 rfl rfl)
theorem dX1_importText_41 : decode cX1_importText 41 = .ok (.aload_n 1, 1) := dk_43 (dk_at dksX1_importText_1 19 rfl rfl)
theorem dX1_importText_42 : decode cX1_importText 42 = .ok (.getfield 421, 3) := dk_180 1 165 (dk_at dksX1_importText_1 20 rfl rfl)
theorem dX1_importText_45 : decode cX1_importText 45 = .ok (.putfield 19, 3) := dk_181 0 19 (dk_at dksX1_importText_2 0 rfl rfl)
theorem dX1_importText_48 : decode cX1_importText 48 = .ok (.aload_n 0, 1) := dk_42 (dk_at dksX1_importText_2 3 rfl rfl)
theorem dX1_importText_49 : decode cX1_importText 49 = .ok (.aconst_null, 1) := dk_1 (dk_at dksX1_importText_2 4 rfl rfl)
theorem dX1_importText_50 : decode cX1_importText 50 = .ok (.putfield 44, 3) := dk_181 0 44 (dk_at dksX1_importText_2 5 rfl rfl)
theorem dX1_importText_53 : decode cX1_importText 53 = .ok (.iload_n 2, 1) := dk_28 (dk_at dksX1_importText_2 8 rfl rfl)
theorem dX1_importText_54 : decode cX1_importText 54 = .ok (.ireturn, 1) := dk_172 (dk_at dksX1_importText_2 9 rfl rfl)
theorem dX1_importText_55 : decode cX1_importText 55 = .ok (.astore_n 2, 1) := dk_77 (dk_at dksX1_importText_2 10 rfl rfl)
theorem dX1_importText_56 : decode cX1_importText 56 = .ok (.aload_n 0, 1) := dk_42 (dk_at dksX1_importText_2 11 rfl rfl)
theorem dX1_importText_57 : decode cX1_importText 57 = .ok (.aload_n 2, 1) := dk_44 (dk_at dksX1_importText_2 12 rfl rfl)
theorem dX1_importText_58 : decode cX1_importText 58 = .ok (.getfield 426, 3) := dk_180 1 170 (dk_at dksX1_importText_2 13 rfl rfl)
theorem dX1_importText_61 : decode cX1_importText 61 = .ok (.putfield 415, 3) := dk_181 1 159 (dk_at dksX1_importText_2 16 rfl rfl)
theorem dX1_importText_64 : decode cX1_importText 64 = .ok (.aload_n 0, 1) := dk_42 (dk_at dksX1_importText_2 19 rfl rfl)
theorem dX1_importText_65 : decode cX1_importText 65 = .ok (.aload_n 2, 1) := dk_44 (dk_at dksX1_importText_2 20 rfl rfl)
theorem dX1_importText_66 : decode cX1_importText 66 = .ok (.getfield 429, 3) := dk_180 1 173 (dk_at dksX1_importText_2 21 rfl rfl)
theorem dX1_importText_69 : decode cX1_importText 69 = .ok (.putfield 40, 3) := dk_181 0 40 (dk_at dksX1_importText_3 0 rfl rfl)
theorem dX1_importText_72 : decode cX1_importText 72 = .ok (.iconst (-1), 1) := dk_2 (dk_at dksX1_importText_3 3 rfl rfl)
theorem dX1_importText_73 : decode cX1_importText 73 = .ok (.ireturn, 1) := dk_172 (dk_at dksX1_importText_3 4 rfl rfl)
abbrev cX1_isBlank : ByteArray := prog_1_method_12_code
def yX1_isBlank : MethodName := ⟨RX1, "isBlank", "(I)Z"⟩
def dkwX1_isBlank_0 : List UInt8 := [26, 16, 32, 159, 0, 9, 26, 16, 10, 160, 0, 7, 4, 167, 0, 4, 3, 172]
abbrev dktX1_isBlank_0 : List UInt8 := dkwX1_isBlank_0 ++ []
theorem dksX1_isBlank_0 : cX1_isBlank.data.toList.drop 0 = dktX1_isBlank_0 := by decide +kernel
theorem dX1_isBlank_0 : decode cX1_isBlank 0 = .ok (.iload_n 0, 1) := dk_26 (dk_at dksX1_isBlank_0 0 rfl rfl)
theorem dX1_isBlank_1 : decode cX1_isBlank 1 = .ok (.bipush 32, 2) := dk_16 32 (dk_at dksX1_isBlank_0 1 rfl rfl)
theorem dX1_isBlank_3 : decode cX1_isBlank 3 = .ok (.if_icmp .eq 9, 3) := dk_159 0 9 (dk_at dksX1_isBlank_0 3 rfl rfl)
theorem dX1_isBlank_6 : decode cX1_isBlank 6 = .ok (.iload_n 0, 1) := dk_26 (dk_at dksX1_isBlank_0 6 rfl rfl)
theorem dX1_isBlank_7 : decode cX1_isBlank 7 = .ok (.bipush 10, 2) := dk_16 10 (dk_at dksX1_isBlank_0 7 rfl rfl)
theorem dX1_isBlank_9 : decode cX1_isBlank 9 = .ok (.if_icmp .ne 7, 3) := dk_160 0 7 (dk_at dksX1_isBlank_0 9 rfl rfl)
theorem dX1_isBlank_12 : decode cX1_isBlank 12 = .ok (.iconst 1, 1) := dk_4 (dk_at dksX1_isBlank_0 12 rfl rfl)
theorem dX1_isBlank_13 : decode cX1_isBlank 13 = .ok (.goto 4, 3) := dk_167 0 4 (dk_at dksX1_isBlank_0 13 rfl rfl)
theorem dX1_isBlank_16 : decode cX1_isBlank 16 = .ok (.iconst 0, 1) := dk_3 (dk_at dksX1_isBlank_0 16 rfl rfl)
theorem dX1_isBlank_17 : decode cX1_isBlank 17 = .ok (.ireturn, 1) := dk_172 (dk_at dksX1_isBlank_0 17 rfl rfl)
abbrev cX1_errorCode : ByteArray := prog_1_method_51_code
def yX1_errorCode : MethodName := ⟨RX1, "errorCode", "()I"⟩
theorem dX1_errorCode_0 : decode cX1_errorCode 0 = .ok (.aload_n 0, 1) := by decide +kernel
theorem dX1_errorCode_1 : decode cX1_errorCode 1 = .ok (.getfield 415, 3) := by decide +kernel
theorem dX1_errorCode_4 : decode cX1_errorCode 4 = .ok (.ireturn, 1) := by decide +kernel
abbrev cX1_errorPosition : ByteArray := prog_1_method_52_code
def yX1_errorPosition : MethodName := ⟨RX1, "errorPosition", "()I"⟩
theorem dX1_errorPosition_0 : decode cX1_errorPosition 0 = .ok (.aload_n 0, 1) := by decide +kernel
theorem dX1_errorPosition_1 : decode cX1_errorPosition 1 = .ok (.getfield 40, 3) := by decide +kernel
theorem dX1_errorPosition_4 : decode cX1_errorPosition 4 = .ok (.ireturn, 1) := by decide +kernel
abbrev cX1_appendText : ByteArray := prog_1_method_10_code
def yX1_appendText : MethodName := ⟨RX1, "appendText", "(I)I"⟩
def dkwX1_appendText_2 : List UInt8 := [181, 0, 90, 132, 2, 248, 167, 255, 226, 42, 180, 0, 90, 172]
abbrev dktX1_appendText_2 : List UInt8 := dkwX1_appendText_2 ++ []
def dkwX1_appendText_1 : List UInt8 := [155, 0, 32, 42, 180, 0, 29, 42, 180, 0, 90, 27, 28, 122, 145, 84, 42, 89, 180, 0, 90, 4, 96]
abbrev dktX1_appendText_1 : List UInt8 := dkwX1_appendText_1 ++ dktX1_appendText_2
def dkwX1_appendText_0 : List UInt8 := [42, 180, 0, 90, 7, 96, 17, 3, 132, 163, 0, 7, 4, 167, 0, 4, 3, 184, 0, 93, 16, 24, 61, 28]
abbrev dktX1_appendText_0 : List UInt8 := dkwX1_appendText_0 ++ dktX1_appendText_1
theorem dksX1_appendText_0 : cX1_appendText.data.toList.drop 0 = dktX1_appendText_0 := by decide +kernel
theorem dksX1_appendText_1 : cX1_appendText.data.toList.drop 24 = dktX1_appendText_1 := dk_seg dksX1_appendText_0 24 rfl rfl
theorem dksX1_appendText_2 : cX1_appendText.data.toList.drop 47 = dktX1_appendText_2 := dk_seg dksX1_appendText_1 23 rfl rfl
theorem dX1_appendText_0 : decode cX1_appendText 0 = .ok (.aload_n 0, 1) := dk_42 (dk_at dksX1_appendText_0 0 rfl rfl)
theorem dX1_appendText_1 : decode cX1_appendText 1 = .ok (.getfield 90, 3) := dk_180 0 90 (dk_at dksX1_appendText_0 1 rfl rfl)
theorem dX1_appendText_4 : decode cX1_appendText 4 = .ok (.iconst 4, 1) := dk_7 (dk_at dksX1_appendText_0 4 rfl rfl)
theorem dX1_appendText_5 : decode cX1_appendText 5 = .ok (.iadd, 1) := dk_96 (dk_at dksX1_appendText_0 5 rfl rfl)
theorem dX1_appendText_6 : decode cX1_appendText 6 = .ok (.sipush 900, 3) := dk_17 3 132 (dk_at dksX1_appendText_0 6 rfl rfl)
theorem dX1_appendText_9 : decode cX1_appendText 9 = .ok (.if_icmp .gt 7, 3) := dk_163 0 7 (dk_at dksX1_appendText_0 9 rfl rfl)
theorem dX1_appendText_12 : decode cX1_appendText 12 = .ok (.iconst 1, 1) := dk_4 (dk_at dksX1_appendText_0 12 rfl rfl)
theorem dX1_appendText_13 : decode cX1_appendText 13 = .ok (.goto 4, 3) := dk_167 0 4 (dk_at dksX1_appendText_0 13 rfl rfl)
theorem dX1_appendText_16 : decode cX1_appendText 16 = .ok (.iconst 0, 1) := dk_3 (dk_at dksX1_appendText_0 16 rfl rfl)
theorem dX1_appendText_17 : decode cX1_appendText 17 = .ok (.invokestatic 93, 3) := dk_184 0 93 (dk_at dksX1_appendText_0 17 rfl rfl)
theorem dX1_appendText_20 : decode cX1_appendText 20 = .ok (.bipush 24, 2) := dk_16 24 (dk_at dksX1_appendText_0 20 rfl rfl)
theorem dX1_appendText_22 : decode cX1_appendText 22 = .ok (.istore_n 2, 1) := dk_61 (dk_at dksX1_appendText_0 22 rfl rfl)
theorem dX1_appendText_23 : decode cX1_appendText 23 = .ok (.iload_n 2, 1) := dk_28 (dk_at dksX1_appendText_0 23 rfl rfl)
theorem dX1_appendText_24 : decode cX1_appendText 24 = .ok (.ifCond .lt 32, 3) := dk_155 0 32 (dk_at dksX1_appendText_1 0 rfl rfl)
theorem dX1_appendText_27 : decode cX1_appendText 27 = .ok (.aload_n 0, 1) := dk_42 (dk_at dksX1_appendText_1 3 rfl rfl)
theorem dX1_appendText_28 : decode cX1_appendText 28 = .ok (.getfield 29, 3) := dk_180 0 29 (dk_at dksX1_appendText_1 4 rfl rfl)
theorem dX1_appendText_31 : decode cX1_appendText 31 = .ok (.aload_n 0, 1) := dk_42 (dk_at dksX1_appendText_1 7 rfl rfl)
theorem dX1_appendText_32 : decode cX1_appendText 32 = .ok (.getfield 90, 3) := dk_180 0 90 (dk_at dksX1_appendText_1 8 rfl rfl)
theorem dX1_appendText_35 : decode cX1_appendText 35 = .ok (.iload_n 1, 1) := dk_27 (dk_at dksX1_appendText_1 11 rfl rfl)
theorem dX1_appendText_36 : decode cX1_appendText 36 = .ok (.iload_n 2, 1) := dk_28 (dk_at dksX1_appendText_1 12 rfl rfl)
theorem dX1_appendText_37 : decode cX1_appendText 37 = .ok (.ishr, 1) := dk_122 (dk_at dksX1_appendText_1 13 rfl rfl)
theorem dX1_appendText_38 : decode cX1_appendText 38 = .ok (.i2b, 1) := dk_145 (dk_at dksX1_appendText_1 14 rfl rfl)
theorem dX1_appendText_39 : decode cX1_appendText 39 = .ok (.bastore, 1) := dk_84 (dk_at dksX1_appendText_1 15 rfl rfl)
theorem dX1_appendText_40 : decode cX1_appendText 40 = .ok (.aload_n 0, 1) := dk_42 (dk_at dksX1_appendText_1 16 rfl rfl)
theorem dX1_appendText_41 : decode cX1_appendText 41 = .ok (.dup, 1) := dk_89 (dk_at dksX1_appendText_1 17 rfl rfl)
theorem dX1_appendText_42 : decode cX1_appendText 42 = .ok (.getfield 90, 3) := dk_180 0 90 (dk_at dksX1_appendText_1 18 rfl rfl)
theorem dX1_appendText_45 : decode cX1_appendText 45 = .ok (.iconst 1, 1) := dk_4 (dk_at dksX1_appendText_1 21 rfl rfl)
theorem dX1_appendText_46 : decode cX1_appendText 46 = .ok (.iadd, 1) := dk_96 (dk_at dksX1_appendText_1 22 rfl rfl)
theorem dX1_appendText_47 : decode cX1_appendText 47 = .ok (.putfield 90, 3) := dk_181 0 90 (dk_at dksX1_appendText_2 0 rfl rfl)
theorem dX1_appendText_50 : decode cX1_appendText 50 = .ok (.iinc 2 (-8), 3) := dk_132 2 248 (dk_at dksX1_appendText_2 3 rfl rfl)
theorem dX1_appendText_53 : decode cX1_appendText 53 = .ok (.goto (-30), 3) := dk_167 255 226 (dk_at dksX1_appendText_2 6 rfl rfl)
theorem dX1_appendText_56 : decode cX1_appendText 56 = .ok (.aload_n 0, 1) := dk_42 (dk_at dksX1_appendText_2 9 rfl rfl)
theorem dX1_appendText_57 : decode cX1_appendText 57 = .ok (.getfield 90, 3) := dk_180 0 90 (dk_at dksX1_appendText_2 10 rfl rfl)
theorem dX1_appendText_60 : decode cX1_appendText 60 = .ok (.ireturn, 1) := dk_172 (dk_at dksX1_appendText_2 13 rfl rfl)
abbrev cX1_checkState : ByteArray := prog_1_method_4_code
def yX1_checkState : MethodName := ⟨RX1, "checkState", "(Z)V"⟩
def dkwX1_checkState_0 : List UInt8 := [26, 154, 0, 11, 187, 0, 10, 89, 183, 0, 12, 191, 177]
abbrev dktX1_checkState_0 : List UInt8 := dkwX1_checkState_0 ++ []
theorem dksX1_checkState_0 : cX1_checkState.data.toList.drop 0 = dktX1_checkState_0 := by decide +kernel
theorem dX1_checkState_0 : decode cX1_checkState 0 = .ok (.iload_n 0, 1) := dk_26 (dk_at dksX1_checkState_0 0 rfl rfl)
theorem dX1_checkState_1 : decode cX1_checkState 1 = .ok (.ifCond .ne 11, 3) := dk_154 0 11 (dk_at dksX1_checkState_0 1 rfl rfl)
theorem dX1_checkState_4 : decode cX1_checkState 4 = .ok (.new 10, 3) := dk_187 0 10 (dk_at dksX1_checkState_0 4 rfl rfl)
theorem dX1_checkState_7 : decode cX1_checkState 7 = .ok (.dup, 1) := dk_89 (dk_at dksX1_checkState_0 7 rfl rfl)
theorem dX1_checkState_8 : decode cX1_checkState 8 = .ok (.invokespecial 12, 3) := dk_183 0 12 (dk_at dksX1_checkState_0 8 rfl rfl)
theorem dX1_checkState_11 : decode cX1_checkState 11 = .ok (.athrow, 1) := dk_191 (dk_at dksX1_checkState_0 11 rfl rfl)
theorem dX1_checkState_12 : decode cX1_checkState 12 = .ok (.return_, 1) := dk_177 (dk_at dksX1_checkState_0 12 rfl rfl)
abbrev cX1_truncateText : ByteArray := prog_1_method_11_code
def yX1_truncateText : MethodName := ⟨RX1, "truncateText", "(I)I"⟩
def dkwX1_truncateText_0 : List UInt8 := [27, 133, 9, 42, 180, 0, 90, 133, 184, 0, 63, 184, 0, 96, 42, 27, 181, 0, 90, 27, 172]
abbrev dktX1_truncateText_0 : List UInt8 := dkwX1_truncateText_0 ++ []
theorem dksX1_truncateText_0 : cX1_truncateText.data.toList.drop 0 = dktX1_truncateText_0 := by decide +kernel
theorem dX1_truncateText_0 : decode cX1_truncateText 0 = .ok (.iload_n 1, 1) := dk_27 (dk_at dksX1_truncateText_0 0 rfl rfl)
theorem dX1_truncateText_1 : decode cX1_truncateText 1 = .ok (.i2l, 1) := dk_133 (dk_at dksX1_truncateText_0 1 rfl rfl)
theorem dX1_truncateText_2 : decode cX1_truncateText 2 = .ok (.lconst 0, 1) := dk_9 (dk_at dksX1_truncateText_0 2 rfl rfl)
theorem dX1_truncateText_3 : decode cX1_truncateText 3 = .ok (.aload_n 0, 1) := dk_42 (dk_at dksX1_truncateText_0 3 rfl rfl)
theorem dX1_truncateText_4 : decode cX1_truncateText 4 = .ok (.getfield 90, 3) := dk_180 0 90 (dk_at dksX1_truncateText_0 4 rfl rfl)
theorem dX1_truncateText_7 : decode cX1_truncateText 7 = .ok (.i2l, 1) := dk_133 (dk_at dksX1_truncateText_0 7 rfl rfl)
theorem dX1_truncateText_8 : decode cX1_truncateText 8 = .ok (.invokestatic 63, 3) := dk_184 0 63 (dk_at dksX1_truncateText_0 8 rfl rfl)
theorem dX1_truncateText_11 : decode cX1_truncateText 11 = .ok (.invokestatic 96, 3) := dk_184 0 96 (dk_at dksX1_truncateText_0 11 rfl rfl)
theorem dX1_truncateText_14 : decode cX1_truncateText 14 = .ok (.aload_n 0, 1) := dk_42 (dk_at dksX1_truncateText_0 14 rfl rfl)
theorem dX1_truncateText_15 : decode cX1_truncateText 15 = .ok (.iload_n 1, 1) := dk_27 (dk_at dksX1_truncateText_0 15 rfl rfl)
theorem dX1_truncateText_16 : decode cX1_truncateText 16 = .ok (.putfield 90, 3) := dk_181 0 90 (dk_at dksX1_truncateText_0 16 rfl rfl)
theorem dX1_truncateText_19 : decode cX1_truncateText 19 = .ok (.iload_n 1, 1) := dk_27 (dk_at dksX1_truncateText_0 19 rfl rfl)
theorem dX1_truncateText_20 : decode cX1_truncateText 20 = .ok (.ireturn, 1) := dk_172 (dk_at dksX1_truncateText_0 20 rfl rfl)
abbrev cX1_checkArgument : ByteArray := prog_1_method_3_code
def yX1_checkArgument : MethodName := ⟨RX1, "checkArgument", "(Z)V"⟩
def dkwX1_checkArgument_0 : List UInt8 := [26, 154, 0, 11, 187, 0, 7, 89, 183, 0, 9, 191, 177]
abbrev dktX1_checkArgument_0 : List UInt8 := dkwX1_checkArgument_0 ++ []
theorem dksX1_checkArgument_0 : cX1_checkArgument.data.toList.drop 0 = dktX1_checkArgument_0 := by decide +kernel
theorem dX1_checkArgument_0 : decode cX1_checkArgument 0 = .ok (.iload_n 0, 1) := dk_26 (dk_at dksX1_checkArgument_0 0 rfl rfl)
theorem dX1_checkArgument_1 : decode cX1_checkArgument 1 = .ok (.ifCond .ne 11, 3) := dk_154 0 11 (dk_at dksX1_checkArgument_0 1 rfl rfl)
theorem dX1_checkArgument_4 : decode cX1_checkArgument 4 = .ok (.new 7, 3) := dk_187 0 7 (dk_at dksX1_checkArgument_0 4 rfl rfl)
theorem dX1_checkArgument_7 : decode cX1_checkArgument 7 = .ok (.dup, 1) := dk_89 (dk_at dksX1_checkArgument_0 7 rfl rfl)
theorem dX1_checkArgument_8 : decode cX1_checkArgument 8 = .ok (.invokespecial 9, 3) := dk_183 0 9 (dk_at dksX1_checkArgument_0 8 rfl rfl)
theorem dX1_checkArgument_11 : decode cX1_checkArgument 11 = .ok (.athrow, 1) := dk_191 (dk_at dksX1_checkArgument_0 11 rfl rfl)
theorem dX1_checkArgument_12 : decode cX1_checkArgument 12 = .ok (.return_, 1) := dk_177 (dk_at dksX1_checkArgument_0 12 rfl rfl)
abbrev cX1_count : ByteArray := prog_1_method_17_code
def yX1_count : MethodName := ⟨RX1, "count", "(I)I"⟩
def dkwX1_count_5 : List UInt8 := [180, 0, 19, 180, 0, 53, 182, 0, 151, 153, 0, 7, 2, 167, 0, 10, 42, 180, 0, 19, 180, 0, 165, 172]
abbrev dktX1_count_5 : List UInt8 := dkwX1_count_5 ++ []
def dkwX1_count_4 : List UInt8 := [167, 0, 13, 42, 182, 0, 155, 180, 0, 159, 182, 0, 57, 172, 42, 180, 0, 19, 180, 0, 162, 172, 42]
abbrev dktX1_count_4 : List UInt8 := dkwX1_count_4 ++ dktX1_count_5
def dkwX1_count_3 : List UInt8 := [180, 0, 19, 180, 0, 148, 182, 0, 57, 172, 42, 180, 0, 19, 180, 0, 53, 182, 0, 151, 153, 0, 7, 3]
abbrev dktX1_count_3 : List UInt8 := dkwX1_count_3 ++ dktX1_count_4
def dkwX1_count_2 : List UInt8 := [42, 180, 0, 19, 180, 0, 53, 182, 0, 57, 172, 42, 180, 0, 19, 180, 0, 145, 182, 0, 57, 172, 42]
abbrev dktX1_count_2 : List UInt8 := dkwX1_count_2 ++ dktX1_count_3
def dkwX1_count_1 : List UInt8 := [170, 0, 0, 0, 0, 0, 104, 0, 0, 0, 0, 0, 0, 0, 4, 0, 0, 0, 35, 0, 0, 0, 46, 0, 0, 0, 57, 0, 0, 0, 68, 0, 0, 0, 96]
abbrev dktX1_count_1 : List UInt8 := dkwX1_count_1 ++ dktX1_count_2
def dkwX1_count_0 : List UInt8 := [27, 133, 9, 20, 0, 143, 184, 0, 63, 184, 0, 96, 27]
abbrev dktX1_count_0 : List UInt8 := dkwX1_count_0 ++ dktX1_count_1
theorem dksX1_count_0 : cX1_count.data.toList.drop 0 = dktX1_count_0 := by decide +kernel
theorem dksX1_count_1 : cX1_count.data.toList.drop 13 = dktX1_count_1 := dk_seg dksX1_count_0 13 rfl rfl
theorem dksX1_count_2 : cX1_count.data.toList.drop 48 = dktX1_count_2 := dk_seg dksX1_count_1 35 rfl rfl
theorem dksX1_count_3 : cX1_count.data.toList.drop 71 = dktX1_count_3 := dk_seg dksX1_count_2 23 rfl rfl
theorem dksX1_count_4 : cX1_count.data.toList.drop 95 = dktX1_count_4 := dk_seg dksX1_count_3 24 rfl rfl
theorem dksX1_count_5 : cX1_count.data.toList.drop 118 = dktX1_count_5 := dk_seg dksX1_count_4 23 rfl rfl
theorem dX1_count_0 : decode cX1_count 0 = .ok (.iload_n 1, 1) := dk_27 (dk_at dksX1_count_0 0 rfl rfl)
theorem dX1_count_1 : decode cX1_count 1 = .ok (.i2l, 1) := dk_133 (dk_at dksX1_count_0 1 rfl rfl)
theorem dX1_count_2 : decode cX1_count 2 = .ok (.lconst 0, 1) := dk_9 (dk_at dksX1_count_0 2 rfl rfl)
theorem dX1_count_3 : decode cX1_count 3 = .ok (.ldc2_w 143, 3) := dk_20 0 143 (dk_at dksX1_count_0 3 rfl rfl)
theorem dX1_count_6 : decode cX1_count 6 = .ok (.invokestatic 63, 3) := dk_184 0 63 (dk_at dksX1_count_0 6 rfl rfl)
theorem dX1_count_9 : decode cX1_count 9 = .ok (.invokestatic 96, 3) := dk_184 0 96 (dk_at dksX1_count_0 9 rfl rfl)
theorem dX1_count_12 : decode cX1_count 12 = .ok (.iload_n 1, 1) := dk_27 (dk_at dksX1_count_0 12 rfl rfl)
theorem dX1_count_13 : decode cX1_count 13 = .ok (.tableswitch 104 0 4 #[35, 46, 57, 68, 96], 35) := by decide +kernel
theorem dX1_count_48 : decode cX1_count 48 = .ok (.aload_n 0, 1) := dk_42 (dk_at dksX1_count_2 0 rfl rfl)
theorem dX1_count_49 : decode cX1_count 49 = .ok (.getfield 19, 3) := dk_180 0 19 (dk_at dksX1_count_2 1 rfl rfl)
theorem dX1_count_52 : decode cX1_count 52 = .ok (.getfield 53, 3) := dk_180 0 53 (dk_at dksX1_count_2 4 rfl rfl)
theorem dX1_count_55 : decode cX1_count 55 = .ok (.invokevirtual 57, 3) := dk_182 0 57 (dk_at dksX1_count_2 7 rfl rfl)
theorem dX1_count_58 : decode cX1_count 58 = .ok (.ireturn, 1) := dk_172 (dk_at dksX1_count_2 10 rfl rfl)
theorem dX1_count_59 : decode cX1_count 59 = .ok (.aload_n 0, 1) := dk_42 (dk_at dksX1_count_2 11 rfl rfl)
theorem dX1_count_60 : decode cX1_count 60 = .ok (.getfield 19, 3) := dk_180 0 19 (dk_at dksX1_count_2 12 rfl rfl)
theorem dX1_count_63 : decode cX1_count 63 = .ok (.getfield 145, 3) := dk_180 0 145 (dk_at dksX1_count_2 15 rfl rfl)
theorem dX1_count_66 : decode cX1_count 66 = .ok (.invokevirtual 57, 3) := dk_182 0 57 (dk_at dksX1_count_2 18 rfl rfl)
theorem dX1_count_69 : decode cX1_count 69 = .ok (.ireturn, 1) := dk_172 (dk_at dksX1_count_2 21 rfl rfl)
theorem dX1_count_70 : decode cX1_count 70 = .ok (.aload_n 0, 1) := dk_42 (dk_at dksX1_count_2 22 rfl rfl)
theorem dX1_count_71 : decode cX1_count 71 = .ok (.getfield 19, 3) := dk_180 0 19 (dk_at dksX1_count_3 0 rfl rfl)
theorem dX1_count_74 : decode cX1_count 74 = .ok (.getfield 148, 3) := dk_180 0 148 (dk_at dksX1_count_3 3 rfl rfl)
theorem dX1_count_77 : decode cX1_count 77 = .ok (.invokevirtual 57, 3) := dk_182 0 57 (dk_at dksX1_count_3 6 rfl rfl)
theorem dX1_count_80 : decode cX1_count 80 = .ok (.ireturn, 1) := dk_172 (dk_at dksX1_count_3 9 rfl rfl)
theorem dX1_count_81 : decode cX1_count 81 = .ok (.aload_n 0, 1) := dk_42 (dk_at dksX1_count_3 10 rfl rfl)
theorem dX1_count_82 : decode cX1_count 82 = .ok (.getfield 19, 3) := dk_180 0 19 (dk_at dksX1_count_3 11 rfl rfl)
theorem dX1_count_85 : decode cX1_count 85 = .ok (.getfield 53, 3) := dk_180 0 53 (dk_at dksX1_count_3 14 rfl rfl)
theorem dX1_count_88 : decode cX1_count 88 = .ok (.invokevirtual 151, 3) := dk_182 0 151 (dk_at dksX1_count_3 17 rfl rfl)
theorem dX1_count_91 : decode cX1_count 91 = .ok (.ifCond .eq 7, 3) := dk_153 0 7 (dk_at dksX1_count_3 20 rfl rfl)
theorem dX1_count_94 : decode cX1_count 94 = .ok (.iconst 0, 1) := dk_3 (dk_at dksX1_count_3 23 rfl rfl)
theorem dX1_count_95 : decode cX1_count 95 = .ok (.goto 13, 3) := dk_167 0 13 (dk_at dksX1_count_4 0 rfl rfl)
theorem dX1_count_98 : decode cX1_count 98 = .ok (.aload_n 0, 1) := dk_42 (dk_at dksX1_count_4 3 rfl rfl)
theorem dX1_count_99 : decode cX1_count 99 = .ok (.invokevirtual 155, 3) := dk_182 0 155 (dk_at dksX1_count_4 4 rfl rfl)
theorem dX1_count_102 : decode cX1_count 102 = .ok (.getfield 159, 3) := dk_180 0 159 (dk_at dksX1_count_4 7 rfl rfl)
theorem dX1_count_105 : decode cX1_count 105 = .ok (.invokevirtual 57, 3) := dk_182 0 57 (dk_at dksX1_count_4 10 rfl rfl)
theorem dX1_count_108 : decode cX1_count 108 = .ok (.ireturn, 1) := dk_172 (dk_at dksX1_count_4 13 rfl rfl)
theorem dX1_count_109 : decode cX1_count 109 = .ok (.aload_n 0, 1) := dk_42 (dk_at dksX1_count_4 14 rfl rfl)
theorem dX1_count_110 : decode cX1_count 110 = .ok (.getfield 19, 3) := dk_180 0 19 (dk_at dksX1_count_4 15 rfl rfl)
theorem dX1_count_113 : decode cX1_count 113 = .ok (.getfield 162, 3) := dk_180 0 162 (dk_at dksX1_count_4 18 rfl rfl)
theorem dX1_count_116 : decode cX1_count 116 = .ok (.ireturn, 1) := dk_172 (dk_at dksX1_count_4 21 rfl rfl)
theorem dX1_count_117 : decode cX1_count 117 = .ok (.aload_n 0, 1) := dk_42 (dk_at dksX1_count_4 22 rfl rfl)
theorem dX1_count_118 : decode cX1_count 118 = .ok (.getfield 19, 3) := dk_180 0 19 (dk_at dksX1_count_5 0 rfl rfl)
theorem dX1_count_121 : decode cX1_count 121 = .ok (.getfield 53, 3) := dk_180 0 53 (dk_at dksX1_count_5 3 rfl rfl)
theorem dX1_count_124 : decode cX1_count 124 = .ok (.invokevirtual 151, 3) := dk_182 0 151 (dk_at dksX1_count_5 6 rfl rfl)
theorem dX1_count_127 : decode cX1_count 127 = .ok (.ifCond .eq 7, 3) := dk_153 0 7 (dk_at dksX1_count_5 9 rfl rfl)
theorem dX1_count_130 : decode cX1_count 130 = .ok (.iconst (-1), 1) := dk_2 (dk_at dksX1_count_5 12 rfl rfl)
theorem dX1_count_131 : decode cX1_count 131 = .ok (.goto 10, 3) := dk_167 0 10 (dk_at dksX1_count_5 13 rfl rfl)
theorem dX1_count_134 : decode cX1_count 134 = .ok (.aload_n 0, 1) := dk_42 (dk_at dksX1_count_5 16 rfl rfl)
theorem dX1_count_135 : decode cX1_count 135 = .ok (.getfield 19, 3) := dk_180 0 19 (dk_at dksX1_count_5 17 rfl rfl)
theorem dX1_count_138 : decode cX1_count 138 = .ok (.getfield 165, 3) := dk_180 0 165 (dk_at dksX1_count_5 20 rfl rfl)
theorem dX1_count_141 : decode cX1_count 141 = .ok (.ireturn, 1) := dk_172 (dk_at dksX1_count_5 23 rfl rfl)
abbrev cX1_addEdition : ByteArray := prog_1_method_18_code
def yX1_addEdition : MethodName := ⟨RX1, "addEdition", "(II)I"⟩
def dkwX1_addEdition_4 : List UInt8 := [167, 0, 4, 3, 182, 0, 189, 167, 255, 214, 42, 182, 0, 192, 42, 180, 0, 19, 25, 4, 182, 0, 195, 172]
abbrev dktX1_addEdition_4 : List UInt8 := dkwX1_addEdition_4 ++ []
def dkwX1_addEdition_3 : List UInt8 := [185, 0, 184, 1, 0, 192, 0, 141, 58, 6, 25, 4, 25, 6, 25, 4, 182, 0, 188, 154, 0, 7, 4]
abbrev dktX1_addEdition_3 : List UInt8 := dkwX1_addEdition_3 ++ dktX1_addEdition_4
def dkwX1_addEdition_2 : List UInt8 := [58, 4, 45, 182, 0, 175, 58, 5, 25, 5, 185, 0, 179, 1, 0, 153, 0, 38, 25, 5]
abbrev dktX1_addEdition_2 : List UInt8 := dkwX1_addEdition_2 ++ dktX1_addEdition_3
def dkwX1_addEdition_1 : List UInt8 := [182, 0, 57, 6, 162, 0, 7, 4, 167, 0, 4, 3, 184, 0, 93, 187, 0, 75, 89, 27, 28, 183, 0, 172]
abbrev dktX1_addEdition_1 : List UInt8 := dkwX1_addEdition_1 ++ dktX1_addEdition_2
def dkwX1_addEdition_0 : List UInt8 := [27, 28, 184, 0, 168, 184, 0, 96, 42, 4, 16, 120, 182, 0, 138, 78, 42, 180, 0, 19, 180, 0, 53]
abbrev dktX1_addEdition_0 : List UInt8 := dkwX1_addEdition_0 ++ dktX1_addEdition_1
theorem dksX1_addEdition_0 : cX1_addEdition.data.toList.drop 0 = dktX1_addEdition_0 := by decide +kernel
theorem dksX1_addEdition_1 : cX1_addEdition.data.toList.drop 23 = dktX1_addEdition_1 := dk_seg dksX1_addEdition_0 23 rfl rfl
theorem dksX1_addEdition_2 : cX1_addEdition.data.toList.drop 47 = dktX1_addEdition_2 := dk_seg dksX1_addEdition_1 24 rfl rfl
theorem dksX1_addEdition_3 : cX1_addEdition.data.toList.drop 67 = dktX1_addEdition_3 := dk_seg dksX1_addEdition_2 20 rfl rfl
theorem dksX1_addEdition_4 : cX1_addEdition.data.toList.drop 90 = dktX1_addEdition_4 := dk_seg dksX1_addEdition_3 23 rfl rfl
theorem dX1_addEdition_0 : decode cX1_addEdition 0 = .ok (.iload_n 1, 1) := dk_27 (dk_at dksX1_addEdition_0 0 rfl rfl)
theorem dX1_addEdition_1 : decode cX1_addEdition 1 = .ok (.iload_n 2, 1) := dk_28 (dk_at dksX1_addEdition_0 1 rfl rfl)
theorem dX1_addEdition_2 : decode cX1_addEdition 2 = .ok (.invokestatic 168, 3) := dk_184 0 168 (dk_at dksX1_addEdition_0 2 rfl rfl)
theorem dX1_addEdition_5 : decode cX1_addEdition 5 = .ok (.invokestatic 96, 3) := dk_184 0 96 (dk_at dksX1_addEdition_0 5 rfl rfl)
theorem dX1_addEdition_8 : decode cX1_addEdition 8 = .ok (.aload_n 0, 1) := dk_42 (dk_at dksX1_addEdition_0 8 rfl rfl)
theorem dX1_addEdition_9 : decode cX1_addEdition 9 = .ok (.iconst 1, 1) := dk_4 (dk_at dksX1_addEdition_0 9 rfl rfl)
theorem dX1_addEdition_10 : decode cX1_addEdition 10 = .ok (.bipush 120, 2) := dk_16 120 (dk_at dksX1_addEdition_0 10 rfl rfl)
theorem dX1_addEdition_12 : decode cX1_addEdition 12 = .ok (.invokevirtual 138, 3) := dk_182 0 138 (dk_at dksX1_addEdition_0 12 rfl rfl)
theorem dX1_addEdition_15 : decode cX1_addEdition 15 = .ok (.astore_n 3, 1) := dk_78 (dk_at dksX1_addEdition_0 15 rfl rfl)
theorem dX1_addEdition_16 : decode cX1_addEdition 16 = .ok (.aload_n 0, 1) := dk_42 (dk_at dksX1_addEdition_0 16 rfl rfl)
theorem dX1_addEdition_17 : decode cX1_addEdition 17 = .ok (.getfield 19, 3) := dk_180 0 19 (dk_at dksX1_addEdition_0 17 rfl rfl)
theorem dX1_addEdition_20 : decode cX1_addEdition 20 = .ok (.getfield 53, 3) := dk_180 0 53 (dk_at dksX1_addEdition_0 20 rfl rfl)
theorem dX1_addEdition_23 : decode cX1_addEdition 23 = .ok (.invokevirtual 57, 3) := dk_182 0 57 (dk_at dksX1_addEdition_1 0 rfl rfl)
theorem dX1_addEdition_26 : decode cX1_addEdition 26 = .ok (.iconst 3, 1) := dk_6 (dk_at dksX1_addEdition_1 3 rfl rfl)
theorem dX1_addEdition_27 : decode cX1_addEdition 27 = .ok (.if_icmp .ge 7, 3) := dk_162 0 7 (dk_at dksX1_addEdition_1 4 rfl rfl)
theorem dX1_addEdition_30 : decode cX1_addEdition 30 = .ok (.iconst 1, 1) := dk_4 (dk_at dksX1_addEdition_1 7 rfl rfl)
theorem dX1_addEdition_31 : decode cX1_addEdition 31 = .ok (.goto 4, 3) := dk_167 0 4 (dk_at dksX1_addEdition_1 8 rfl rfl)
theorem dX1_addEdition_34 : decode cX1_addEdition 34 = .ok (.iconst 0, 1) := dk_3 (dk_at dksX1_addEdition_1 11 rfl rfl)
theorem dX1_addEdition_35 : decode cX1_addEdition 35 = .ok (.invokestatic 93, 3) := dk_184 0 93 (dk_at dksX1_addEdition_1 12 rfl rfl)
theorem dX1_addEdition_38 : decode cX1_addEdition 38 = .ok (.new 75, 3) := dk_187 0 75 (dk_at dksX1_addEdition_1 15 rfl rfl)
theorem dX1_addEdition_41 : decode cX1_addEdition 41 = .ok (.dup, 1) := dk_89 (dk_at dksX1_addEdition_1 18 rfl rfl)
theorem dX1_addEdition_42 : decode cX1_addEdition 42 = .ok (.iload_n 1, 1) := dk_27 (dk_at dksX1_addEdition_1 19 rfl rfl)
theorem dX1_addEdition_43 : decode cX1_addEdition 43 = .ok (.iload_n 2, 1) := dk_28 (dk_at dksX1_addEdition_1 20 rfl rfl)
theorem dX1_addEdition_44 : decode cX1_addEdition 44 = .ok (.invokespecial 172, 3) := dk_183 0 172 (dk_at dksX1_addEdition_1 21 rfl rfl)
theorem dX1_addEdition_47 : decode cX1_addEdition 47 = .ok (.astore 4, 2) := dk_58 4 (dk_at dksX1_addEdition_2 0 rfl rfl)
theorem dX1_addEdition_49 : decode cX1_addEdition 49 = .ok (.aload_n 3, 1) := dk_45 (dk_at dksX1_addEdition_2 2 rfl rfl)
theorem dX1_addEdition_50 : decode cX1_addEdition 50 = .ok (.invokevirtual 175, 3) := dk_182 0 175 (dk_at dksX1_addEdition_2 3 rfl rfl)
theorem dX1_addEdition_53 : decode cX1_addEdition 53 = .ok (.astore 5, 2) := dk_58 5 (dk_at dksX1_addEdition_2 6 rfl rfl)
theorem dX1_addEdition_55 : decode cX1_addEdition 55 = .ok (.aload 5, 2) := dk_25 5 (dk_at dksX1_addEdition_2 8 rfl rfl)
theorem dX1_addEdition_57 : decode cX1_addEdition 57 = .ok (.invokeinterface 179 1, 5) := by decide +kernel
theorem dX1_addEdition_62 : decode cX1_addEdition 62 = .ok (.ifCond .eq 38, 3) := dk_153 0 38 (dk_at dksX1_addEdition_2 15 rfl rfl)
theorem dX1_addEdition_65 : decode cX1_addEdition 65 = .ok (.aload 5, 2) := dk_25 5 (dk_at dksX1_addEdition_2 18 rfl rfl)
theorem dX1_addEdition_67 : decode cX1_addEdition 67 = .ok (.invokeinterface 184 1, 5) := by decide +kernel
theorem dX1_addEdition_72 : decode cX1_addEdition 72 = .ok (.checkcast 141, 3) := dk_192 0 141 (dk_at dksX1_addEdition_3 5 rfl rfl)
theorem dX1_addEdition_75 : decode cX1_addEdition 75 = .ok (.astore 6, 2) := dk_58 6 (dk_at dksX1_addEdition_3 8 rfl rfl)
theorem dX1_addEdition_77 : decode cX1_addEdition 77 = .ok (.aload 4, 2) := dk_25 4 (dk_at dksX1_addEdition_3 10 rfl rfl)
theorem dX1_addEdition_79 : decode cX1_addEdition 79 = .ok (.aload 6, 2) := dk_25 6 (dk_at dksX1_addEdition_3 12 rfl rfl)
theorem dX1_addEdition_81 : decode cX1_addEdition 81 = .ok (.aload 4, 2) := dk_25 4 (dk_at dksX1_addEdition_3 14 rfl rfl)
theorem dX1_addEdition_83 : decode cX1_addEdition 83 = .ok (.invokevirtual 188, 3) := dk_182 0 188 (dk_at dksX1_addEdition_3 16 rfl rfl)
theorem dX1_addEdition_86 : decode cX1_addEdition 86 = .ok (.ifCond .ne 7, 3) := dk_154 0 7 (dk_at dksX1_addEdition_3 19 rfl rfl)
theorem dX1_addEdition_89 : decode cX1_addEdition 89 = .ok (.iconst 1, 1) := dk_4 (dk_at dksX1_addEdition_3 22 rfl rfl)
theorem dX1_addEdition_90 : decode cX1_addEdition 90 = .ok (.goto 4, 3) := dk_167 0 4 (dk_at dksX1_addEdition_4 0 rfl rfl)
theorem dX1_addEdition_93 : decode cX1_addEdition 93 = .ok (.iconst 0, 1) := dk_3 (dk_at dksX1_addEdition_4 3 rfl rfl)
theorem dX1_addEdition_94 : decode cX1_addEdition 94 = .ok (.invokevirtual 189, 3) := dk_182 0 189 (dk_at dksX1_addEdition_4 4 rfl rfl)
theorem dX1_addEdition_97 : decode cX1_addEdition 97 = .ok (.goto (-42), 3) := dk_167 255 214 (dk_at dksX1_addEdition_4 7 rfl rfl)
theorem dX1_addEdition_100 : decode cX1_addEdition 100 = .ok (.aload_n 0, 1) := dk_42 (dk_at dksX1_addEdition_4 10 rfl rfl)
theorem dX1_addEdition_101 : decode cX1_addEdition 101 = .ok (.invokevirtual 192, 3) := dk_182 0 192 (dk_at dksX1_addEdition_4 11 rfl rfl)
theorem dX1_addEdition_104 : decode cX1_addEdition 104 = .ok (.aload_n 0, 1) := dk_42 (dk_at dksX1_addEdition_4 14 rfl rfl)
theorem dX1_addEdition_105 : decode cX1_addEdition 105 = .ok (.getfield 19, 3) := dk_180 0 19 (dk_at dksX1_addEdition_4 15 rfl rfl)
theorem dX1_addEdition_108 : decode cX1_addEdition 108 = .ok (.aload 4, 2) := dk_25 4 (dk_at dksX1_addEdition_4 18 rfl rfl)
theorem dX1_addEdition_110 : decode cX1_addEdition 110 = .ok (.invokevirtual 195, 3) := dk_182 0 195 (dk_at dksX1_addEdition_4 20 rfl rfl)
theorem dX1_addEdition_113 : decode cX1_addEdition 113 = .ok (.ireturn, 1) := dk_172 (dk_at dksX1_addEdition_4 23 rfl rfl)
abbrev cX1_isLayout : ByteArray := prog_1_method_9_code
def yX1_isLayout : MethodName := ⟨RX1, "isLayout", "(II)Z"⟩
def dkwX1_isLayout_1 : List UInt8 := [153, 0, 7, 4, 167, 0, 4, 3, 172]
abbrev dktX1_isLayout_1 : List UInt8 := dkwX1_isLayout_1 ++ []
def dkwX1_isLayout_0 : List UInt8 := [26, 133, 20, 0, 84, 20, 0, 86, 184, 0, 63, 153, 0, 19, 27, 133, 10, 20, 0, 88, 184, 0, 63]
abbrev dktX1_isLayout_0 : List UInt8 := dkwX1_isLayout_0 ++ dktX1_isLayout_1
theorem dksX1_isLayout_0 : cX1_isLayout.data.toList.drop 0 = dktX1_isLayout_0 := by decide +kernel
theorem dksX1_isLayout_1 : cX1_isLayout.data.toList.drop 23 = dktX1_isLayout_1 := dk_seg dksX1_isLayout_0 23 rfl rfl
theorem dX1_isLayout_0 : decode cX1_isLayout 0 = .ok (.iload_n 0, 1) := dk_26 (dk_at dksX1_isLayout_0 0 rfl rfl)
theorem dX1_isLayout_1 : decode cX1_isLayout 1 = .ok (.i2l, 1) := dk_133 (dk_at dksX1_isLayout_0 1 rfl rfl)
theorem dX1_isLayout_2 : decode cX1_isLayout 2 = .ok (.ldc2_w 84, 3) := dk_20 0 84 (dk_at dksX1_isLayout_0 2 rfl rfl)
theorem dX1_isLayout_5 : decode cX1_isLayout 5 = .ok (.ldc2_w 86, 3) := dk_20 0 86 (dk_at dksX1_isLayout_0 5 rfl rfl)
theorem dX1_isLayout_8 : decode cX1_isLayout 8 = .ok (.invokestatic 63, 3) := dk_184 0 63 (dk_at dksX1_isLayout_0 8 rfl rfl)
theorem dX1_isLayout_11 : decode cX1_isLayout 11 = .ok (.ifCond .eq 19, 3) := dk_153 0 19 (dk_at dksX1_isLayout_0 11 rfl rfl)
theorem dX1_isLayout_14 : decode cX1_isLayout 14 = .ok (.iload_n 1, 1) := dk_27 (dk_at dksX1_isLayout_0 14 rfl rfl)
theorem dX1_isLayout_15 : decode cX1_isLayout 15 = .ok (.i2l, 1) := dk_133 (dk_at dksX1_isLayout_0 15 rfl rfl)
theorem dX1_isLayout_16 : decode cX1_isLayout 16 = .ok (.lconst 1, 1) := dk_10 (dk_at dksX1_isLayout_0 16 rfl rfl)
theorem dX1_isLayout_17 : decode cX1_isLayout 17 = .ok (.ldc2_w 88, 3) := dk_20 0 88 (dk_at dksX1_isLayout_0 17 rfl rfl)
theorem dX1_isLayout_20 : decode cX1_isLayout 20 = .ok (.invokestatic 63, 3) := dk_184 0 63 (dk_at dksX1_isLayout_0 20 rfl rfl)
theorem dX1_isLayout_23 : decode cX1_isLayout 23 = .ok (.ifCond .eq 7, 3) := dk_153 0 7 (dk_at dksX1_isLayout_1 0 rfl rfl)
theorem dX1_isLayout_26 : decode cX1_isLayout 26 = .ok (.iconst 1, 1) := dk_4 (dk_at dksX1_isLayout_1 3 rfl rfl)
theorem dX1_isLayout_27 : decode cX1_isLayout 27 = .ok (.goto 4, 3) := dk_167 0 4 (dk_at dksX1_isLayout_1 4 rfl rfl)
theorem dX1_isLayout_30 : decode cX1_isLayout 30 = .ok (.iconst 0, 1) := dk_3 (dk_at dksX1_isLayout_1 7 rfl rfl)
theorem dX1_isLayout_31 : decode cX1_isLayout 31 = .ok (.ireturn, 1) := dk_172 (dk_at dksX1_isLayout_1 8 rfl rfl)
abbrev cX1_words : ByteArray := prog_1_method_14_code
def yX1_words : MethodName := ⟨RX1, "words", "(II)Ljava/util/ArrayList;"⟩
def dkwX1_words_0 : List UInt8 := [42, 27, 28, 182, 0, 134, 176, 78, 187, 0, 7, 89, 183, 0, 9, 191]
abbrev dktX1_words_0 : List UInt8 := dkwX1_words_0 ++ []
theorem dksX1_words_0 : cX1_words.data.toList.drop 0 = dktX1_words_0 := by decide +kernel
theorem dX1_words_0 : decode cX1_words 0 = .ok (.aload_n 0, 1) := dk_42 (dk_at dksX1_words_0 0 rfl rfl)
theorem dX1_words_1 : decode cX1_words 1 = .ok (.iload_n 1, 1) := dk_27 (dk_at dksX1_words_0 1 rfl rfl)
theorem dX1_words_2 : decode cX1_words 2 = .ok (.iload_n 2, 1) := dk_28 (dk_at dksX1_words_0 2 rfl rfl)
theorem dX1_words_3 : decode cX1_words 3 = .ok (.invokevirtual 134, 3) := dk_182 0 134 (dk_at dksX1_words_0 3 rfl rfl)
theorem dX1_words_6 : decode cX1_words 6 = .ok (.areturn, 1) := dk_176 (dk_at dksX1_words_0 6 rfl rfl)
theorem dX1_words_7 : decode cX1_words 7 = .ok (.astore_n 3, 1) := dk_78 (dk_at dksX1_words_0 7 rfl rfl)
theorem dX1_words_8 : decode cX1_words 8 = .ok (.new 7, 3) := dk_187 0 7 (dk_at dksX1_words_0 8 rfl rfl)
theorem dX1_words_11 : decode cX1_words 11 = .ok (.dup, 1) := dk_89 (dk_at dksX1_words_0 11 rfl rfl)
theorem dX1_words_12 : decode cX1_words 12 = .ok (.invokespecial 9, 3) := dk_183 0 9 (dk_at dksX1_words_0 12 rfl rfl)
theorem dX1_words_15 : decode cX1_words 15 = .ok (.athrow, 1) := dk_191 (dk_at dksX1_words_0 15 rfl rfl)
abbrev cX1_read : ByteArray := prog_1_method_13_code
def yX1_read : MethodName := ⟨RX1, "read", "(II)Ljava/util/ArrayList;"⟩
def dkwX1_read_7 : List UInt8 := [183, 0, 133, 191, 45, 176]
abbrev dktX1_read_7 : List UInt8 := dkwX1_read_7 ++ []
def dkwX1_read_6 : List UInt8 := [167, 255, 140, 45, 182, 0, 57, 133, 27, 133, 28, 133, 184, 0, 63, 154, 0, 11, 187, 0, 131, 89]
abbrev dktX1_read_6 : List UInt8 := dkwX1_read_6 ++ dktX1_read_7
def dkwX1_read_5 : List UInt8 := [158, 0, 19, 45, 25, 4, 182, 0, 120, 182, 0, 124, 87, 25, 4, 3, 182, 0, 128, 132, 5, 1]
abbrev dktX1_read_5 : List UInt8 := dkwX1_read_5 ++ dktX1_read_6
def dkwX1_read_4 : List UInt8 := [25, 4, 182, 0, 114, 16, 8, 164, 0, 11, 187, 0, 117, 89, 183, 0, 119, 191, 25, 4, 182, 0, 114]
abbrev dktX1_read_4 : List UInt8 := dkwX1_read_4 ++ dktX1_read_5
def dkwX1_read_3 : List UInt8 := [153, 0, 15, 25, 4, 21, 6, 146, 182, 0, 106, 87, 167, 0, 53, 21, 6, 184, 0, 110, 153, 0, 13]
abbrev dktX1_read_3 : List UInt8 := dkwX1_read_3 ++ dktX1_read_4
def dkwX1_read_2 : List UInt8 := [17, 0, 255, 126, 167, 0, 5, 16, 32, 54, 6, 21, 6, 133, 20, 0, 102, 20, 0, 104, 184, 0, 63]
abbrev dktX1_read_2 : List UInt8 := dkwX1_read_2 ++ dktX1_read_3
def dkwX1_read_1 : List UInt8 := [180, 0, 90, 163, 0, 113, 21, 5, 42, 180, 0, 90, 162, 0, 17, 42, 180, 0, 29, 21, 5, 51]
abbrev dktX1_read_1 : List UInt8 := dkwX1_read_1 ++ dktX1_read_2
def dkwX1_read_0 : List UInt8 := [187, 0, 58, 89, 7, 183, 0, 99, 78, 187, 0, 33, 89, 183, 0, 35, 58, 4, 3, 54, 5, 21, 5, 42]
abbrev dktX1_read_0 : List UInt8 := dkwX1_read_0 ++ dktX1_read_1
theorem dksX1_read_0 : cX1_read.data.toList.drop 0 = dktX1_read_0 := by decide +kernel
theorem dksX1_read_1 : cX1_read.data.toList.drop 24 = dktX1_read_1 := dk_seg dksX1_read_0 24 rfl rfl
theorem dksX1_read_2 : cX1_read.data.toList.drop 46 = dktX1_read_2 := dk_seg dksX1_read_1 22 rfl rfl
theorem dksX1_read_3 : cX1_read.data.toList.drop 69 = dktX1_read_3 := dk_seg dksX1_read_2 23 rfl rfl
theorem dksX1_read_4 : cX1_read.data.toList.drop 92 = dktX1_read_4 := dk_seg dksX1_read_3 23 rfl rfl
theorem dksX1_read_5 : cX1_read.data.toList.drop 115 = dktX1_read_5 := dk_seg dksX1_read_4 23 rfl rfl
theorem dksX1_read_6 : cX1_read.data.toList.drop 137 = dktX1_read_6 := dk_seg dksX1_read_5 22 rfl rfl
theorem dksX1_read_7 : cX1_read.data.toList.drop 159 = dktX1_read_7 := dk_seg dksX1_read_6 22 rfl rfl
theorem dX1_read_0 : decode cX1_read 0 = .ok (.new 58, 3) := dk_187 0 58 (dk_at dksX1_read_0 0 rfl rfl)
theorem dX1_read_3 : decode cX1_read 3 = .ok (.dup, 1) := dk_89 (dk_at dksX1_read_0 3 rfl rfl)
theorem dX1_read_4 : decode cX1_read 4 = .ok (.iconst 4, 1) := dk_7 (dk_at dksX1_read_0 4 rfl rfl)
theorem dX1_read_5 : decode cX1_read 5 = .ok (.invokespecial 99, 3) := dk_183 0 99 (dk_at dksX1_read_0 5 rfl rfl)
theorem dX1_read_8 : decode cX1_read 8 = .ok (.astore_n 3, 1) := dk_78 (dk_at dksX1_read_0 8 rfl rfl)
theorem dX1_read_9 : decode cX1_read 9 = .ok (.new 33, 3) := dk_187 0 33 (dk_at dksX1_read_0 9 rfl rfl)
theorem dX1_read_12 : decode cX1_read 12 = .ok (.dup, 1) := dk_89 (dk_at dksX1_read_0 12 rfl rfl)
theorem dX1_read_13 : decode cX1_read 13 = .ok (.invokespecial 35, 3) := dk_183 0 35 (dk_at dksX1_read_0 13 rfl rfl)
theorem dX1_read_16 : decode cX1_read 16 = .ok (.astore 4, 2) := dk_58 4 (dk_at dksX1_read_0 16 rfl rfl)
theorem dX1_read_18 : decode cX1_read 18 = .ok (.iconst 0, 1) := dk_3 (dk_at dksX1_read_0 18 rfl rfl)
theorem dX1_read_19 : decode cX1_read 19 = .ok (.istore 5, 2) := dk_54 5 (dk_at dksX1_read_0 19 rfl rfl)
theorem dX1_read_21 : decode cX1_read 21 = .ok (.iload 5, 2) := dk_21 5 (dk_at dksX1_read_0 21 rfl rfl)
theorem dX1_read_23 : decode cX1_read 23 = .ok (.aload_n 0, 1) := dk_42 (dk_at dksX1_read_0 23 rfl rfl)
theorem dX1_read_24 : decode cX1_read 24 = .ok (.getfield 90, 3) := dk_180 0 90 (dk_at dksX1_read_1 0 rfl rfl)
theorem dX1_read_27 : decode cX1_read 27 = .ok (.if_icmp .gt 113, 3) := dk_163 0 113 (dk_at dksX1_read_1 3 rfl rfl)
theorem dX1_read_30 : decode cX1_read 30 = .ok (.iload 5, 2) := dk_21 5 (dk_at dksX1_read_1 6 rfl rfl)
theorem dX1_read_32 : decode cX1_read 32 = .ok (.aload_n 0, 1) := dk_42 (dk_at dksX1_read_1 8 rfl rfl)
theorem dX1_read_33 : decode cX1_read 33 = .ok (.getfield 90, 3) := dk_180 0 90 (dk_at dksX1_read_1 9 rfl rfl)
theorem dX1_read_36 : decode cX1_read 36 = .ok (.if_icmp .ge 17, 3) := dk_162 0 17 (dk_at dksX1_read_1 12 rfl rfl)
theorem dX1_read_39 : decode cX1_read 39 = .ok (.aload_n 0, 1) := dk_42 (dk_at dksX1_read_1 15 rfl rfl)
theorem dX1_read_40 : decode cX1_read 40 = .ok (.getfield 29, 3) := dk_180 0 29 (dk_at dksX1_read_1 16 rfl rfl)
theorem dX1_read_43 : decode cX1_read 43 = .ok (.iload 5, 2) := dk_21 5 (dk_at dksX1_read_1 19 rfl rfl)
theorem dX1_read_45 : decode cX1_read 45 = .ok (.baload, 1) := dk_51 (dk_at dksX1_read_1 21 rfl rfl)
theorem dX1_read_46 : decode cX1_read 46 = .ok (.sipush 255, 3) := dk_17 0 255 (dk_at dksX1_read_2 0 rfl rfl)
theorem dX1_read_49 : decode cX1_read 49 = .ok (.iand, 1) := dk_126 (dk_at dksX1_read_2 3 rfl rfl)
theorem dX1_read_50 : decode cX1_read 50 = .ok (.goto 5, 3) := dk_167 0 5 (dk_at dksX1_read_2 4 rfl rfl)
theorem dX1_read_53 : decode cX1_read 53 = .ok (.bipush 32, 2) := dk_16 32 (dk_at dksX1_read_2 7 rfl rfl)
theorem dX1_read_55 : decode cX1_read 55 = .ok (.istore 6, 2) := dk_54 6 (dk_at dksX1_read_2 9 rfl rfl)
theorem dX1_read_57 : decode cX1_read 57 = .ok (.iload 6, 2) := dk_21 6 (dk_at dksX1_read_2 11 rfl rfl)
theorem dX1_read_59 : decode cX1_read 59 = .ok (.i2l, 1) := dk_133 (dk_at dksX1_read_2 13 rfl rfl)
theorem dX1_read_60 : decode cX1_read 60 = .ok (.ldc2_w 102, 3) := dk_20 0 102 (dk_at dksX1_read_2 14 rfl rfl)
theorem dX1_read_63 : decode cX1_read 63 = .ok (.ldc2_w 104, 3) := dk_20 0 104 (dk_at dksX1_read_2 17 rfl rfl)
theorem dX1_read_66 : decode cX1_read 66 = .ok (.invokestatic 63, 3) := dk_184 0 63 (dk_at dksX1_read_2 20 rfl rfl)
theorem dX1_read_69 : decode cX1_read 69 = .ok (.ifCond .eq 15, 3) := dk_153 0 15 (dk_at dksX1_read_3 0 rfl rfl)
theorem dX1_read_72 : decode cX1_read 72 = .ok (.aload 4, 2) := dk_25 4 (dk_at dksX1_read_3 3 rfl rfl)
theorem dX1_read_74 : decode cX1_read 74 = .ok (.iload 6, 2) := dk_21 6 (dk_at dksX1_read_3 5 rfl rfl)
theorem dX1_read_76 : decode cX1_read 76 = .ok (.i2c, 1) := dk_146 (dk_at dksX1_read_3 7 rfl rfl)
theorem dX1_read_77 : decode cX1_read 77 = .ok (.invokevirtual 106, 3) := dk_182 0 106 (dk_at dksX1_read_3 8 rfl rfl)
theorem dX1_read_80 : decode cX1_read 80 = .ok (.pop, 1) := dk_87 (dk_at dksX1_read_3 11 rfl rfl)
theorem dX1_read_81 : decode cX1_read 81 = .ok (.goto 53, 3) := dk_167 0 53 (dk_at dksX1_read_3 12 rfl rfl)
theorem dX1_read_84 : decode cX1_read 84 = .ok (.iload 6, 2) := dk_21 6 (dk_at dksX1_read_3 15 rfl rfl)
theorem dX1_read_86 : decode cX1_read 86 = .ok (.invokestatic 110, 3) := dk_184 0 110 (dk_at dksX1_read_3 17 rfl rfl)
theorem dX1_read_89 : decode cX1_read 89 = .ok (.ifCond .eq 13, 3) := dk_153 0 13 (dk_at dksX1_read_3 20 rfl rfl)
theorem dX1_read_92 : decode cX1_read 92 = .ok (.aload 4, 2) := dk_25 4 (dk_at dksX1_read_4 0 rfl rfl)
theorem dX1_read_94 : decode cX1_read 94 = .ok (.invokevirtual 114, 3) := dk_182 0 114 (dk_at dksX1_read_4 2 rfl rfl)
theorem dX1_read_97 : decode cX1_read 97 = .ok (.bipush 8, 2) := dk_16 8 (dk_at dksX1_read_4 5 rfl rfl)
theorem dX1_read_99 : decode cX1_read 99 = .ok (.if_icmp .le 11, 3) := dk_164 0 11 (dk_at dksX1_read_4 7 rfl rfl)
theorem dX1_read_102 : decode cX1_read 102 = .ok (.new 117, 3) := dk_187 0 117 (dk_at dksX1_read_4 10 rfl rfl)
theorem dX1_read_105 : decode cX1_read 105 = .ok (.dup, 1) := dk_89 (dk_at dksX1_read_4 13 rfl rfl)
theorem dX1_read_106 : decode cX1_read 106 = .ok (.invokespecial 119, 3) := dk_183 0 119 (dk_at dksX1_read_4 14 rfl rfl)
theorem dX1_read_109 : decode cX1_read 109 = .ok (.athrow, 1) := dk_191 (dk_at dksX1_read_4 17 rfl rfl)
theorem dX1_read_110 : decode cX1_read 110 = .ok (.aload 4, 2) := dk_25 4 (dk_at dksX1_read_4 18 rfl rfl)
theorem dX1_read_112 : decode cX1_read 112 = .ok (.invokevirtual 114, 3) := dk_182 0 114 (dk_at dksX1_read_4 20 rfl rfl)
theorem dX1_read_115 : decode cX1_read 115 = .ok (.ifCond .le 19, 3) := dk_158 0 19 (dk_at dksX1_read_5 0 rfl rfl)
theorem dX1_read_118 : decode cX1_read 118 = .ok (.aload_n 3, 1) := dk_45 (dk_at dksX1_read_5 3 rfl rfl)
theorem dX1_read_119 : decode cX1_read 119 = .ok (.aload 4, 2) := dk_25 4 (dk_at dksX1_read_5 4 rfl rfl)
theorem dX1_read_121 : decode cX1_read 121 = .ok (.invokevirtual 120, 3) := dk_182 0 120 (dk_at dksX1_read_5 6 rfl rfl)
theorem dX1_read_124 : decode cX1_read 124 = .ok (.invokevirtual 124, 3) := dk_182 0 124 (dk_at dksX1_read_5 9 rfl rfl)
theorem dX1_read_127 : decode cX1_read 127 = .ok (.pop, 1) := dk_87 (dk_at dksX1_read_5 12 rfl rfl)
theorem dX1_read_128 : decode cX1_read 128 = .ok (.aload 4, 2) := dk_25 4 (dk_at dksX1_read_5 13 rfl rfl)
theorem dX1_read_130 : decode cX1_read 130 = .ok (.iconst 0, 1) := dk_3 (dk_at dksX1_read_5 15 rfl rfl)
theorem dX1_read_131 : decode cX1_read 131 = .ok (.invokevirtual 128, 3) := dk_182 0 128 (dk_at dksX1_read_5 16 rfl rfl)
theorem dX1_read_134 : decode cX1_read 134 = .ok (.iinc 5 1, 3) := dk_132 5 1 (dk_at dksX1_read_5 19 rfl rfl)
theorem dX1_read_137 : decode cX1_read 137 = .ok (.goto (-116), 3) := dk_167 255 140 (dk_at dksX1_read_6 0 rfl rfl)
theorem dX1_read_140 : decode cX1_read 140 = .ok (.aload_n 3, 1) := dk_45 (dk_at dksX1_read_6 3 rfl rfl)
theorem dX1_read_141 : decode cX1_read 141 = .ok (.invokevirtual 57, 3) := dk_182 0 57 (dk_at dksX1_read_6 4 rfl rfl)
theorem dX1_read_144 : decode cX1_read 144 = .ok (.i2l, 1) := dk_133 (dk_at dksX1_read_6 7 rfl rfl)
theorem dX1_read_145 : decode cX1_read 145 = .ok (.iload_n 1, 1) := dk_27 (dk_at dksX1_read_6 8 rfl rfl)
theorem dX1_read_146 : decode cX1_read 146 = .ok (.i2l, 1) := dk_133 (dk_at dksX1_read_6 9 rfl rfl)
theorem dX1_read_147 : decode cX1_read 147 = .ok (.iload_n 2, 1) := dk_28 (dk_at dksX1_read_6 10 rfl rfl)
theorem dX1_read_148 : decode cX1_read 148 = .ok (.i2l, 1) := dk_133 (dk_at dksX1_read_6 11 rfl rfl)
theorem dX1_read_149 : decode cX1_read 149 = .ok (.invokestatic 63, 3) := dk_184 0 63 (dk_at dksX1_read_6 12 rfl rfl)
theorem dX1_read_152 : decode cX1_read 152 = .ok (.ifCond .ne 11, 3) := dk_154 0 11 (dk_at dksX1_read_6 15 rfl rfl)
theorem dX1_read_155 : decode cX1_read 155 = .ok (.new 131, 3) := dk_187 0 131 (dk_at dksX1_read_6 18 rfl rfl)
theorem dX1_read_158 : decode cX1_read 158 = .ok (.dup, 1) := dk_89 (dk_at dksX1_read_6 21 rfl rfl)
theorem dX1_read_159 : decode cX1_read 159 = .ok (.invokespecial 133, 3) := dk_183 0 133 (dk_at dksX1_read_7 0 rfl rfl)
theorem dX1_read_162 : decode cX1_read 162 = .ok (.athrow, 1) := dk_191 (dk_at dksX1_read_7 3 rfl rfl)
theorem dX1_read_163 : decode cX1_read 163 = .ok (.aload_n 3, 1) := dk_45 (dk_at dksX1_read_7 4 rfl rfl)
theorem dX1_read_164 : decode cX1_read 164 = .ok (.areturn, 1) := dk_176 (dk_at dksX1_read_7 5 rfl rfl)
abbrev cX1_change : ByteArray := prog_1_method_16_code
def yX1_change : MethodName := ⟨RX1, "change", "()V"⟩
def dkwX1_change_0 : List UInt8 := [42, 3, 181, 0, 90, 42, 1, 181, 0, 44, 177]
abbrev dktX1_change_0 : List UInt8 := dkwX1_change_0 ++ []
theorem dksX1_change_0 : cX1_change.data.toList.drop 0 = dktX1_change_0 := by decide +kernel
theorem dX1_change_0 : decode cX1_change 0 = .ok (.aload_n 0, 1) := dk_42 (dk_at dksX1_change_0 0 rfl rfl)
theorem dX1_change_1 : decode cX1_change 1 = .ok (.iconst 0, 1) := dk_3 (dk_at dksX1_change_0 1 rfl rfl)
theorem dX1_change_2 : decode cX1_change 2 = .ok (.putfield 90, 3) := dk_181 0 90 (dk_at dksX1_change_0 2 rfl rfl)
theorem dX1_change_5 : decode cX1_change 5 = .ok (.aload_n 0, 1) := dk_42 (dk_at dksX1_change_0 5 rfl rfl)
theorem dX1_change_6 : decode cX1_change 6 = .ok (.aconst_null, 1) := dk_1 (dk_at dksX1_change_0 6 rfl rfl)
theorem dX1_change_7 : decode cX1_change 7 = .ok (.putfield 44, 3) := dk_181 0 44 (dk_at dksX1_change_0 7 rfl rfl)
theorem dX1_change_10 : decode cX1_change 10 = .ok (.return_, 1) := dk_177 (dk_at dksX1_change_0 10 rfl rfl)
abbrev cX1_setLayout : ByteArray := prog_1_method_19_code
def yX1_setLayout : MethodName := ⟨RX1, "setLayout", "(III)I"⟩
def dkwX1_setLayout_1 : List UInt8 := [181, 0, 202, 25, 4, 182, 0, 205, 25, 4, 182, 0, 208, 172]
abbrev dktX1_setLayout_1 : List UInt8 := dkwX1_setLayout_1 ++ []
def dkwX1_setLayout_0 : List UInt8 := [42, 27, 182, 0, 77, 58, 4, 28, 29, 184, 0, 168, 184, 0, 96, 25, 4, 28, 181, 0, 199, 25, 4, 29]
abbrev dktX1_setLayout_0 : List UInt8 := dkwX1_setLayout_0 ++ dktX1_setLayout_1
theorem dksX1_setLayout_0 : cX1_setLayout.data.toList.drop 0 = dktX1_setLayout_0 := by decide +kernel
theorem dksX1_setLayout_1 : cX1_setLayout.data.toList.drop 24 = dktX1_setLayout_1 := dk_seg dksX1_setLayout_0 24 rfl rfl
theorem dX1_setLayout_0 : decode cX1_setLayout 0 = .ok (.aload_n 0, 1) := dk_42 (dk_at dksX1_setLayout_0 0 rfl rfl)
theorem dX1_setLayout_1 : decode cX1_setLayout 1 = .ok (.iload_n 1, 1) := dk_27 (dk_at dksX1_setLayout_0 1 rfl rfl)
theorem dX1_setLayout_2 : decode cX1_setLayout 2 = .ok (.invokevirtual 77, 3) := dk_182 0 77 (dk_at dksX1_setLayout_0 2 rfl rfl)
theorem dX1_setLayout_5 : decode cX1_setLayout 5 = .ok (.astore 4, 2) := dk_58 4 (dk_at dksX1_setLayout_0 5 rfl rfl)
theorem dX1_setLayout_7 : decode cX1_setLayout 7 = .ok (.iload_n 2, 1) := dk_28 (dk_at dksX1_setLayout_0 7 rfl rfl)
theorem dX1_setLayout_8 : decode cX1_setLayout 8 = .ok (.iload_n 3, 1) := dk_29 (dk_at dksX1_setLayout_0 8 rfl rfl)
theorem dX1_setLayout_9 : decode cX1_setLayout 9 = .ok (.invokestatic 168, 3) := dk_184 0 168 (dk_at dksX1_setLayout_0 9 rfl rfl)
theorem dX1_setLayout_12 : decode cX1_setLayout 12 = .ok (.invokestatic 96, 3) := dk_184 0 96 (dk_at dksX1_setLayout_0 12 rfl rfl)
theorem dX1_setLayout_15 : decode cX1_setLayout 15 = .ok (.aload 4, 2) := dk_25 4 (dk_at dksX1_setLayout_0 15 rfl rfl)
theorem dX1_setLayout_17 : decode cX1_setLayout 17 = .ok (.iload_n 2, 1) := dk_28 (dk_at dksX1_setLayout_0 17 rfl rfl)
theorem dX1_setLayout_18 : decode cX1_setLayout 18 = .ok (.putfield 199, 3) := dk_181 0 199 (dk_at dksX1_setLayout_0 18 rfl rfl)
theorem dX1_setLayout_21 : decode cX1_setLayout 21 = .ok (.aload 4, 2) := dk_25 4 (dk_at dksX1_setLayout_0 21 rfl rfl)
theorem dX1_setLayout_23 : decode cX1_setLayout 23 = .ok (.iload_n 3, 1) := dk_29 (dk_at dksX1_setLayout_0 23 rfl rfl)
theorem dX1_setLayout_24 : decode cX1_setLayout 24 = .ok (.putfield 202, 3) := dk_181 0 202 (dk_at dksX1_setLayout_1 0 rfl rfl)
theorem dX1_setLayout_27 : decode cX1_setLayout 27 = .ok (.aload 4, 2) := dk_25 4 (dk_at dksX1_setLayout_1 3 rfl rfl)
theorem dX1_setLayout_29 : decode cX1_setLayout 29 = .ok (.invokevirtual 205, 3) := dk_182 0 205 (dk_at dksX1_setLayout_1 5 rfl rfl)
theorem dX1_setLayout_32 : decode cX1_setLayout 32 = .ok (.aload 4, 2) := dk_25 4 (dk_at dksX1_setLayout_1 8 rfl rfl)
theorem dX1_setLayout_34 : decode cX1_setLayout 34 = .ok (.invokevirtual 208, 3) := dk_182 0 208 (dk_at dksX1_setLayout_1 10 rfl rfl)
theorem dX1_setLayout_37 : decode cX1_setLayout 37 = .ok (.ireturn, 1) := dk_172 (dk_at dksX1_setLayout_1 13 rfl rfl)
abbrev cX1_edition : ByteArray := prog_1_method_7_code
def yX1_edition : MethodName := ⟨RX1, "edition", "(I)LNoteImporter$Edition;"⟩
def dkwX1_edition_1 : List UInt8 := [180, 0, 19, 180, 0, 53, 27, 182, 0, 71, 192, 0, 75, 176]
abbrev dktX1_edition_1 : List UInt8 := dkwX1_edition_1 ++ []
def dkwX1_edition_0 : List UInt8 := [27, 133, 9, 42, 180, 0, 19, 180, 0, 53, 182, 0, 57, 4, 100, 133, 184, 0, 63, 184, 0, 67, 42]
abbrev dktX1_edition_0 : List UInt8 := dkwX1_edition_0 ++ dktX1_edition_1
theorem dksX1_edition_0 : cX1_edition.data.toList.drop 0 = dktX1_edition_0 := by decide +kernel
theorem dksX1_edition_1 : cX1_edition.data.toList.drop 23 = dktX1_edition_1 := dk_seg dksX1_edition_0 23 rfl rfl
theorem dX1_edition_0 : decode cX1_edition 0 = .ok (.iload_n 1, 1) := dk_27 (dk_at dksX1_edition_0 0 rfl rfl)
theorem dX1_edition_1 : decode cX1_edition 1 = .ok (.i2l, 1) := dk_133 (dk_at dksX1_edition_0 1 rfl rfl)
theorem dX1_edition_2 : decode cX1_edition 2 = .ok (.lconst 0, 1) := dk_9 (dk_at dksX1_edition_0 2 rfl rfl)
theorem dX1_edition_3 : decode cX1_edition 3 = .ok (.aload_n 0, 1) := dk_42 (dk_at dksX1_edition_0 3 rfl rfl)
theorem dX1_edition_4 : decode cX1_edition 4 = .ok (.getfield 19, 3) := dk_180 0 19 (dk_at dksX1_edition_0 4 rfl rfl)
theorem dX1_edition_7 : decode cX1_edition 7 = .ok (.getfield 53, 3) := dk_180 0 53 (dk_at dksX1_edition_0 7 rfl rfl)
theorem dX1_edition_10 : decode cX1_edition 10 = .ok (.invokevirtual 57, 3) := dk_182 0 57 (dk_at dksX1_edition_0 10 rfl rfl)
theorem dX1_edition_13 : decode cX1_edition 13 = .ok (.iconst 1, 1) := dk_4 (dk_at dksX1_edition_0 13 rfl rfl)
theorem dX1_edition_14 : decode cX1_edition 14 = .ok (.isub, 1) := dk_100 (dk_at dksX1_edition_0 14 rfl rfl)
theorem dX1_edition_15 : decode cX1_edition 15 = .ok (.i2l, 1) := dk_133 (dk_at dksX1_edition_0 15 rfl rfl)
theorem dX1_edition_16 : decode cX1_edition 16 = .ok (.invokestatic 63, 3) := dk_184 0 63 (dk_at dksX1_edition_0 16 rfl rfl)
theorem dX1_edition_19 : decode cX1_edition 19 = .ok (.invokestatic 67, 3) := dk_184 0 67 (dk_at dksX1_edition_0 19 rfl rfl)
theorem dX1_edition_22 : decode cX1_edition 22 = .ok (.aload_n 0, 1) := dk_42 (dk_at dksX1_edition_0 22 rfl rfl)
theorem dX1_edition_23 : decode cX1_edition 23 = .ok (.getfield 19, 3) := dk_180 0 19 (dk_at dksX1_edition_1 0 rfl rfl)
theorem dX1_edition_26 : decode cX1_edition 26 = .ok (.getfield 53, 3) := dk_180 0 53 (dk_at dksX1_edition_1 3 rfl rfl)
theorem dX1_edition_29 : decode cX1_edition 29 = .ok (.iload_n 1, 1) := dk_27 (dk_at dksX1_edition_1 6 rfl rfl)
theorem dX1_edition_30 : decode cX1_edition 30 = .ok (.invokevirtual 71, 3) := dk_182 0 71 (dk_at dksX1_edition_1 7 rfl rfl)
theorem dX1_edition_33 : decode cX1_edition 33 = .ok (.checkcast 75, 3) := dk_192 0 75 (dk_at dksX1_edition_1 10 rfl rfl)
theorem dX1_edition_36 : decode cX1_edition 36 = .ok (.areturn, 1) := dk_176 (dk_at dksX1_edition_1 13 rfl rfl)
abbrev cX1_checkIndex : ByteArray := prog_1_method_2_code
def yX1_checkIndex : MethodName := ⟨RX1, "checkIndex", "(Z)V"⟩
def dkwX1_checkIndex_0 : List UInt8 := [26, 154, 0, 11, 187, 0, 1, 89, 183, 0, 3, 191, 177]
abbrev dktX1_checkIndex_0 : List UInt8 := dkwX1_checkIndex_0 ++ []
theorem dksX1_checkIndex_0 : cX1_checkIndex.data.toList.drop 0 = dktX1_checkIndex_0 := by decide +kernel
theorem dX1_checkIndex_0 : decode cX1_checkIndex 0 = .ok (.iload_n 0, 1) := dk_26 (dk_at dksX1_checkIndex_0 0 rfl rfl)
theorem dX1_checkIndex_1 : decode cX1_checkIndex 1 = .ok (.ifCond .ne 11, 3) := dk_154 0 11 (dk_at dksX1_checkIndex_0 1 rfl rfl)
theorem dX1_checkIndex_4 : decode cX1_checkIndex 4 = .ok (.new 1, 3) := dk_187 0 1 (dk_at dksX1_checkIndex_0 4 rfl rfl)
theorem dX1_checkIndex_7 : decode cX1_checkIndex 7 = .ok (.dup, 1) := dk_89 (dk_at dksX1_checkIndex_0 7 rfl rfl)
theorem dX1_checkIndex_8 : decode cX1_checkIndex 8 = .ok (.invokespecial 3, 3) := dk_183 0 3 (dk_at dksX1_checkIndex_0 8 rfl rfl)
theorem dX1_checkIndex_11 : decode cX1_checkIndex 11 = .ok (.athrow, 1) := dk_191 (dk_at dksX1_checkIndex_0 11 rfl rfl)
theorem dX1_checkIndex_12 : decode cX1_checkIndex 12 = .ok (.return_, 1) := dk_177 (dk_at dksX1_checkIndex_0 12 rfl rfl)
abbrev cX1_edition_2 : ByteArray := prog_1_method_20_code
def yX1_edition_2 : MethodName := ⟨RX1, "edition", "(II)I"⟩
def dkwX1_edition_2_3 : List UInt8 := [172]
abbrev dktX1_edition_2_3 : List UInt8 := dkwX1_edition_2_3 ++ []
def dkwX1_edition_2_2 : List UInt8 := [45, 182, 0, 188, 172, 45, 182, 0, 213, 172, 45, 182, 0, 208, 172, 45, 180, 0, 199, 172, 45, 180, 0, 202]
abbrev dktX1_edition_2_2 : List UInt8 := dkwX1_edition_2_2 ++ dktX1_edition_2_3
def dkwX1_edition_2_1 : List UInt8 := [170, 0, 0, 0, 49, 0, 0, 0, 0, 0, 0, 0, 3, 0, 0, 0, 29, 0, 0, 0, 34, 0, 0, 0, 39, 0, 0, 0, 44]
abbrev dktX1_edition_2_1 : List UInt8 := dkwX1_edition_2_1 ++ dktX1_edition_2_2
def dkwX1_edition_2_0 : List UInt8 := [42, 27, 182, 0, 77, 78, 28, 133, 9, 20, 0, 211, 184, 0, 63, 184, 0, 96, 28]
abbrev dktX1_edition_2_0 : List UInt8 := dkwX1_edition_2_0 ++ dktX1_edition_2_1
theorem dksX1_edition_2_0 : cX1_edition_2.data.toList.drop 0 = dktX1_edition_2_0 := by decide +kernel
theorem dksX1_edition_2_1 : cX1_edition_2.data.toList.drop 19 = dktX1_edition_2_1 := dk_seg dksX1_edition_2_0 19 rfl rfl
theorem dksX1_edition_2_2 : cX1_edition_2.data.toList.drop 48 = dktX1_edition_2_2 := dk_seg dksX1_edition_2_1 29 rfl rfl
theorem dksX1_edition_2_3 : cX1_edition_2.data.toList.drop 72 = dktX1_edition_2_3 := dk_seg dksX1_edition_2_2 24 rfl rfl
theorem dX1_edition_2_0 : decode cX1_edition_2 0 = .ok (.aload_n 0, 1) := dk_42 (dk_at dksX1_edition_2_0 0 rfl rfl)
theorem dX1_edition_2_1 : decode cX1_edition_2 1 = .ok (.iload_n 1, 1) := dk_27 (dk_at dksX1_edition_2_0 1 rfl rfl)
theorem dX1_edition_2_2 : decode cX1_edition_2 2 = .ok (.invokevirtual 77, 3) := dk_182 0 77 (dk_at dksX1_edition_2_0 2 rfl rfl)
theorem dX1_edition_2_5 : decode cX1_edition_2 5 = .ok (.astore_n 3, 1) := dk_78 (dk_at dksX1_edition_2_0 5 rfl rfl)
theorem dX1_edition_2_6 : decode cX1_edition_2 6 = .ok (.iload_n 2, 1) := dk_28 (dk_at dksX1_edition_2_0 6 rfl rfl)
theorem dX1_edition_2_7 : decode cX1_edition_2 7 = .ok (.i2l, 1) := dk_133 (dk_at dksX1_edition_2_0 7 rfl rfl)
theorem dX1_edition_2_8 : decode cX1_edition_2 8 = .ok (.lconst 0, 1) := dk_9 (dk_at dksX1_edition_2_0 8 rfl rfl)
theorem dX1_edition_2_9 : decode cX1_edition_2 9 = .ok (.ldc2_w 211, 3) := dk_20 0 211 (dk_at dksX1_edition_2_0 9 rfl rfl)
theorem dX1_edition_2_12 : decode cX1_edition_2 12 = .ok (.invokestatic 63, 3) := dk_184 0 63 (dk_at dksX1_edition_2_0 12 rfl rfl)
theorem dX1_edition_2_15 : decode cX1_edition_2 15 = .ok (.invokestatic 96, 3) := dk_184 0 96 (dk_at dksX1_edition_2_0 15 rfl rfl)
theorem dX1_edition_2_18 : decode cX1_edition_2 18 = .ok (.iload_n 2, 1) := dk_28 (dk_at dksX1_edition_2_0 18 rfl rfl)
theorem dX1_edition_2_19 : decode cX1_edition_2 19 = .ok (.tableswitch 49 0 3 #[29, 34, 39, 44], 29) := by decide +kernel
theorem dX1_edition_2_48 : decode cX1_edition_2 48 = .ok (.aload_n 3, 1) := dk_45 (dk_at dksX1_edition_2_2 0 rfl rfl)
theorem dX1_edition_2_49 : decode cX1_edition_2 49 = .ok (.invokevirtual 188, 3) := dk_182 0 188 (dk_at dksX1_edition_2_2 1 rfl rfl)
theorem dX1_edition_2_52 : decode cX1_edition_2 52 = .ok (.ireturn, 1) := dk_172 (dk_at dksX1_edition_2_2 4 rfl rfl)
theorem dX1_edition_2_53 : decode cX1_edition_2 53 = .ok (.aload_n 3, 1) := dk_45 (dk_at dksX1_edition_2_2 5 rfl rfl)
theorem dX1_edition_2_54 : decode cX1_edition_2 54 = .ok (.invokevirtual 213, 3) := dk_182 0 213 (dk_at dksX1_edition_2_2 6 rfl rfl)
theorem dX1_edition_2_57 : decode cX1_edition_2 57 = .ok (.ireturn, 1) := dk_172 (dk_at dksX1_edition_2_2 9 rfl rfl)
theorem dX1_edition_2_58 : decode cX1_edition_2 58 = .ok (.aload_n 3, 1) := dk_45 (dk_at dksX1_edition_2_2 10 rfl rfl)
theorem dX1_edition_2_59 : decode cX1_edition_2 59 = .ok (.invokevirtual 208, 3) := dk_182 0 208 (dk_at dksX1_edition_2_2 11 rfl rfl)
theorem dX1_edition_2_62 : decode cX1_edition_2 62 = .ok (.ireturn, 1) := dk_172 (dk_at dksX1_edition_2_2 14 rfl rfl)
theorem dX1_edition_2_63 : decode cX1_edition_2 63 = .ok (.aload_n 3, 1) := dk_45 (dk_at dksX1_edition_2_2 15 rfl rfl)
theorem dX1_edition_2_64 : decode cX1_edition_2 64 = .ok (.getfield 199, 3) := dk_180 0 199 (dk_at dksX1_edition_2_2 16 rfl rfl)
theorem dX1_edition_2_67 : decode cX1_edition_2 67 = .ok (.ireturn, 1) := dk_172 (dk_at dksX1_edition_2_2 19 rfl rfl)
theorem dX1_edition_2_68 : decode cX1_edition_2 68 = .ok (.aload_n 3, 1) := dk_45 (dk_at dksX1_edition_2_2 20 rfl rfl)
theorem dX1_edition_2_69 : decode cX1_edition_2 69 = .ok (.getfield 202, 3) := dk_180 0 202 (dk_at dksX1_edition_2_2 21 rfl rfl)
theorem dX1_edition_2_72 : decode cX1_edition_2 72 = .ok (.ireturn, 1) := dk_172 (dk_at dksX1_edition_2_3 0 rfl rfl)
abbrev cX1_word : ByteArray := prog_1_method_21_code
def yX1_word : MethodName := ⟨RX1, "word", "(III)I"⟩
def dkwX1_word_5 : List UInt8 := [153, 0, 7, 4, 167, 0, 4, 3, 172]
abbrev dktX1_word_5 : List UInt8 := dkwX1_word_5 ++ []
def dkwX1_word_4 : List UInt8 := [192, 0, 141, 182, 0, 236, 172, 25, 4, 180, 0, 237, 28, 182, 0, 71, 192, 0, 240, 182, 0, 242]
abbrev dktX1_word_4 : List UInt8 := dkwX1_word_4 ++ dktX1_word_5
def dkwX1_word_3 : List UInt8 := [180, 0, 228, 28, 46, 172, 25, 4, 180, 0, 231, 28, 46, 172, 25, 4, 180, 0, 234, 28, 182, 0, 71]
abbrev dktX1_word_3 : List UInt8 := dkwX1_word_3 ++ dktX1_word_4
def dkwX1_word_2 : List UInt8 := [25, 4, 28, 182, 0, 220, 172, 25, 4, 180, 0, 224, 28, 46, 25, 4, 180, 0, 202, 112, 172, 25, 4]
abbrev dktX1_word_2 : List UInt8 := dkwX1_word_2 ++ dktX1_word_3
def dkwX1_word_1 : List UInt8 := [170, 0, 0, 0, 0, 0, 88, 0, 0, 0, 0, 0, 0, 0, 4, 0, 0, 0, 35, 0, 0, 0, 42, 0, 0, 0, 56, 0, 0, 0, 64, 0, 0, 0, 72]
abbrev dktX1_word_1 : List UInt8 := dkwX1_word_1 ++ dktX1_word_2
def dkwX1_word_0 : List UInt8 := [42, 27, 28, 182, 0, 216, 58, 4, 29, 133, 9, 20, 0, 143, 184, 0, 63, 184, 0, 96, 29]
abbrev dktX1_word_0 : List UInt8 := dkwX1_word_0 ++ dktX1_word_1
theorem dksX1_word_0 : cX1_word.data.toList.drop 0 = dktX1_word_0 := by decide +kernel
theorem dksX1_word_1 : cX1_word.data.toList.drop 21 = dktX1_word_1 := dk_seg dksX1_word_0 21 rfl rfl
theorem dksX1_word_2 : cX1_word.data.toList.drop 56 = dktX1_word_2 := dk_seg dksX1_word_1 35 rfl rfl
theorem dksX1_word_3 : cX1_word.data.toList.drop 79 = dktX1_word_3 := dk_seg dksX1_word_2 23 rfl rfl
theorem dksX1_word_4 : cX1_word.data.toList.drop 102 = dktX1_word_4 := dk_seg dksX1_word_3 23 rfl rfl
theorem dksX1_word_5 : cX1_word.data.toList.drop 124 = dktX1_word_5 := dk_seg dksX1_word_4 22 rfl rfl
theorem dX1_word_0 : decode cX1_word 0 = .ok (.aload_n 0, 1) := dk_42 (dk_at dksX1_word_0 0 rfl rfl)
theorem dX1_word_1 : decode cX1_word 1 = .ok (.iload_n 1, 1) := dk_27 (dk_at dksX1_word_0 1 rfl rfl)
theorem dX1_word_2 : decode cX1_word 2 = .ok (.iload_n 2, 1) := dk_28 (dk_at dksX1_word_0 2 rfl rfl)
theorem dX1_word_3 : decode cX1_word 3 = .ok (.invokevirtual 216, 3) := dk_182 0 216 (dk_at dksX1_word_0 3 rfl rfl)
theorem dX1_word_6 : decode cX1_word 6 = .ok (.astore 4, 2) := dk_58 4 (dk_at dksX1_word_0 6 rfl rfl)
theorem dX1_word_8 : decode cX1_word 8 = .ok (.iload_n 3, 1) := dk_29 (dk_at dksX1_word_0 8 rfl rfl)
theorem dX1_word_9 : decode cX1_word 9 = .ok (.i2l, 1) := dk_133 (dk_at dksX1_word_0 9 rfl rfl)
theorem dX1_word_10 : decode cX1_word 10 = .ok (.lconst 0, 1) := dk_9 (dk_at dksX1_word_0 10 rfl rfl)
theorem dX1_word_11 : decode cX1_word 11 = .ok (.ldc2_w 143, 3) := dk_20 0 143 (dk_at dksX1_word_0 11 rfl rfl)
theorem dX1_word_14 : decode cX1_word 14 = .ok (.invokestatic 63, 3) := dk_184 0 63 (dk_at dksX1_word_0 14 rfl rfl)
theorem dX1_word_17 : decode cX1_word 17 = .ok (.invokestatic 96, 3) := dk_184 0 96 (dk_at dksX1_word_0 17 rfl rfl)
theorem dX1_word_20 : decode cX1_word 20 = .ok (.iload_n 3, 1) := dk_29 (dk_at dksX1_word_0 20 rfl rfl)
theorem dX1_word_21 : decode cX1_word 21 = .ok (.tableswitch 88 0 4 #[35, 42, 56, 64, 72], 35) := by decide +kernel
theorem dX1_word_56 : decode cX1_word 56 = .ok (.aload 4, 2) := dk_25 4 (dk_at dksX1_word_2 0 rfl rfl)
theorem dX1_word_58 : decode cX1_word 58 = .ok (.iload_n 2, 1) := dk_28 (dk_at dksX1_word_2 2 rfl rfl)
theorem dX1_word_59 : decode cX1_word 59 = .ok (.invokevirtual 220, 3) := dk_182 0 220 (dk_at dksX1_word_2 3 rfl rfl)
theorem dX1_word_62 : decode cX1_word 62 = .ok (.ireturn, 1) := dk_172 (dk_at dksX1_word_2 6 rfl rfl)
theorem dX1_word_63 : decode cX1_word 63 = .ok (.aload 4, 2) := dk_25 4 (dk_at dksX1_word_2 7 rfl rfl)
theorem dX1_word_65 : decode cX1_word 65 = .ok (.getfield 224, 3) := dk_180 0 224 (dk_at dksX1_word_2 9 rfl rfl)
theorem dX1_word_68 : decode cX1_word 68 = .ok (.iload_n 2, 1) := dk_28 (dk_at dksX1_word_2 12 rfl rfl)
theorem dX1_word_69 : decode cX1_word 69 = .ok (.iaload, 1) := dk_46 (dk_at dksX1_word_2 13 rfl rfl)
theorem dX1_word_70 : decode cX1_word 70 = .ok (.aload 4, 2) := dk_25 4 (dk_at dksX1_word_2 14 rfl rfl)
theorem dX1_word_72 : decode cX1_word 72 = .ok (.getfield 202, 3) := dk_180 0 202 (dk_at dksX1_word_2 16 rfl rfl)
theorem dX1_word_75 : decode cX1_word 75 = .ok (.irem, 1) := dk_112 (dk_at dksX1_word_2 19 rfl rfl)
theorem dX1_word_76 : decode cX1_word 76 = .ok (.ireturn, 1) := dk_172 (dk_at dksX1_word_2 20 rfl rfl)
theorem dX1_word_77 : decode cX1_word 77 = .ok (.aload 4, 2) := dk_25 4 (dk_at dksX1_word_2 21 rfl rfl)
theorem dX1_word_79 : decode cX1_word 79 = .ok (.getfield 228, 3) := dk_180 0 228 (dk_at dksX1_word_3 0 rfl rfl)
theorem dX1_word_82 : decode cX1_word 82 = .ok (.iload_n 2, 1) := dk_28 (dk_at dksX1_word_3 3 rfl rfl)
theorem dX1_word_83 : decode cX1_word 83 = .ok (.iaload, 1) := dk_46 (dk_at dksX1_word_3 4 rfl rfl)
theorem dX1_word_84 : decode cX1_word 84 = .ok (.ireturn, 1) := dk_172 (dk_at dksX1_word_3 5 rfl rfl)
theorem dX1_word_85 : decode cX1_word 85 = .ok (.aload 4, 2) := dk_25 4 (dk_at dksX1_word_3 6 rfl rfl)
theorem dX1_word_87 : decode cX1_word 87 = .ok (.getfield 231, 3) := dk_180 0 231 (dk_at dksX1_word_3 8 rfl rfl)
theorem dX1_word_90 : decode cX1_word 90 = .ok (.iload_n 2, 1) := dk_28 (dk_at dksX1_word_3 11 rfl rfl)
theorem dX1_word_91 : decode cX1_word 91 = .ok (.iaload, 1) := dk_46 (dk_at dksX1_word_3 12 rfl rfl)
theorem dX1_word_92 : decode cX1_word 92 = .ok (.ireturn, 1) := dk_172 (dk_at dksX1_word_3 13 rfl rfl)
theorem dX1_word_93 : decode cX1_word 93 = .ok (.aload 4, 2) := dk_25 4 (dk_at dksX1_word_3 14 rfl rfl)
theorem dX1_word_95 : decode cX1_word 95 = .ok (.getfield 234, 3) := dk_180 0 234 (dk_at dksX1_word_3 16 rfl rfl)
theorem dX1_word_98 : decode cX1_word 98 = .ok (.iload_n 2, 1) := dk_28 (dk_at dksX1_word_3 19 rfl rfl)
theorem dX1_word_99 : decode cX1_word 99 = .ok (.invokevirtual 71, 3) := dk_182 0 71 (dk_at dksX1_word_3 20 rfl rfl)
theorem dX1_word_102 : decode cX1_word 102 = .ok (.checkcast 141, 3) := dk_192 0 141 (dk_at dksX1_word_4 0 rfl rfl)
theorem dX1_word_105 : decode cX1_word 105 = .ok (.invokevirtual 236, 3) := dk_182 0 236 (dk_at dksX1_word_4 3 rfl rfl)
theorem dX1_word_108 : decode cX1_word 108 = .ok (.ireturn, 1) := dk_172 (dk_at dksX1_word_4 6 rfl rfl)
theorem dX1_word_109 : decode cX1_word 109 = .ok (.aload 4, 2) := dk_25 4 (dk_at dksX1_word_4 7 rfl rfl)
theorem dX1_word_111 : decode cX1_word 111 = .ok (.getfield 237, 3) := dk_180 0 237 (dk_at dksX1_word_4 9 rfl rfl)
theorem dX1_word_114 : decode cX1_word 114 = .ok (.iload_n 2, 1) := dk_28 (dk_at dksX1_word_4 12 rfl rfl)
theorem dX1_word_115 : decode cX1_word 115 = .ok (.invokevirtual 71, 3) := dk_182 0 71 (dk_at dksX1_word_4 13 rfl rfl)
theorem dX1_word_118 : decode cX1_word 118 = .ok (.checkcast 240, 3) := dk_192 0 240 (dk_at dksX1_word_4 16 rfl rfl)
theorem dX1_word_121 : decode cX1_word 121 = .ok (.invokevirtual 242, 3) := dk_182 0 242 (dk_at dksX1_word_4 19 rfl rfl)
theorem dX1_word_124 : decode cX1_word 124 = .ok (.ifCond .eq 7, 3) := dk_153 0 7 (dk_at dksX1_word_5 0 rfl rfl)
theorem dX1_word_127 : decode cX1_word 127 = .ok (.iconst 1, 1) := dk_4 (dk_at dksX1_word_5 3 rfl rfl)
theorem dX1_word_128 : decode cX1_word 128 = .ok (.goto 4, 3) := dk_167 0 4 (dk_at dksX1_word_5 4 rfl rfl)
theorem dX1_word_131 : decode cX1_word 131 = .ok (.iconst 0, 1) := dk_3 (dk_at dksX1_word_5 7 rfl rfl)
theorem dX1_word_132 : decode cX1_word 132 = .ok (.ireturn, 1) := dk_172 (dk_at dksX1_word_5 8 rfl rfl)
abbrev cX1_editionWith : ByteArray := prog_1_method_8_code
def yX1_editionWith : MethodName := ⟨RX1, "editionWith", "(II)LNoteImporter$Edition;"⟩
def dkwX1_editionWith_0 : List UInt8 := [42, 27, 182, 0, 77, 78, 28, 133, 9, 45, 182, 0, 81, 133, 184, 0, 63, 184, 0, 67, 45, 176]
abbrev dktX1_editionWith_0 : List UInt8 := dkwX1_editionWith_0 ++ []
theorem dksX1_editionWith_0 : cX1_editionWith.data.toList.drop 0 = dktX1_editionWith_0 := by decide +kernel
theorem dX1_editionWith_0 : decode cX1_editionWith 0 = .ok (.aload_n 0, 1) := dk_42 (dk_at dksX1_editionWith_0 0 rfl rfl)
theorem dX1_editionWith_1 : decode cX1_editionWith 1 = .ok (.iload_n 1, 1) := dk_27 (dk_at dksX1_editionWith_0 1 rfl rfl)
theorem dX1_editionWith_2 : decode cX1_editionWith 2 = .ok (.invokevirtual 77, 3) := dk_182 0 77 (dk_at dksX1_editionWith_0 2 rfl rfl)
theorem dX1_editionWith_5 : decode cX1_editionWith 5 = .ok (.astore_n 3, 1) := dk_78 (dk_at dksX1_editionWith_0 5 rfl rfl)
theorem dX1_editionWith_6 : decode cX1_editionWith 6 = .ok (.iload_n 2, 1) := dk_28 (dk_at dksX1_editionWith_0 6 rfl rfl)
theorem dX1_editionWith_7 : decode cX1_editionWith 7 = .ok (.i2l, 1) := dk_133 (dk_at dksX1_editionWith_0 7 rfl rfl)
theorem dX1_editionWith_8 : decode cX1_editionWith 8 = .ok (.lconst 0, 1) := dk_9 (dk_at dksX1_editionWith_0 8 rfl rfl)
theorem dX1_editionWith_9 : decode cX1_editionWith 9 = .ok (.aload_n 3, 1) := dk_45 (dk_at dksX1_editionWith_0 9 rfl rfl)
theorem dX1_editionWith_10 : decode cX1_editionWith 10 = .ok (.invokevirtual 81, 3) := dk_182 0 81 (dk_at dksX1_editionWith_0 10 rfl rfl)
theorem dX1_editionWith_13 : decode cX1_editionWith 13 = .ok (.i2l, 1) := dk_133 (dk_at dksX1_editionWith_0 13 rfl rfl)
theorem dX1_editionWith_14 : decode cX1_editionWith 14 = .ok (.invokestatic 63, 3) := dk_184 0 63 (dk_at dksX1_editionWith_0 14 rfl rfl)
theorem dX1_editionWith_17 : decode cX1_editionWith 17 = .ok (.invokestatic 67, 3) := dk_184 0 67 (dk_at dksX1_editionWith_0 17 rfl rfl)
theorem dX1_editionWith_20 : decode cX1_editionWith 20 = .ok (.aload_n 3, 1) := dk_45 (dk_at dksX1_editionWith_0 20 rfl rfl)
theorem dX1_editionWith_21 : decode cX1_editionWith 21 = .ok (.areturn, 1) := dk_176 (dk_at dksX1_editionWith_0 21 rfl rfl)
abbrev cX1_letter : ByteArray := prog_1_method_22_code
def yX1_letter : MethodName := ⟨RX1, "letter", "(III)I"⟩
def dkwX1_letter_1 : List UInt8 := [182, 0, 236, 4, 100, 133, 184, 0, 63, 184, 0, 67, 25, 4, 29, 182, 0, 245, 172]
abbrev dktX1_letter_1 : List UInt8 := dkwX1_letter_1 ++ []
def dkwX1_letter_0 : List UInt8 := [42, 27, 28, 182, 0, 216, 180, 0, 234, 28, 182, 0, 71, 192, 0, 141, 58, 4, 29, 133, 9, 25, 4]
abbrev dktX1_letter_0 : List UInt8 := dkwX1_letter_0 ++ dktX1_letter_1
theorem dksX1_letter_0 : cX1_letter.data.toList.drop 0 = dktX1_letter_0 := by decide +kernel
theorem dksX1_letter_1 : cX1_letter.data.toList.drop 23 = dktX1_letter_1 := dk_seg dksX1_letter_0 23 rfl rfl
theorem dX1_letter_0 : decode cX1_letter 0 = .ok (.aload_n 0, 1) := dk_42 (dk_at dksX1_letter_0 0 rfl rfl)
theorem dX1_letter_1 : decode cX1_letter 1 = .ok (.iload_n 1, 1) := dk_27 (dk_at dksX1_letter_0 1 rfl rfl)
theorem dX1_letter_2 : decode cX1_letter 2 = .ok (.iload_n 2, 1) := dk_28 (dk_at dksX1_letter_0 2 rfl rfl)
theorem dX1_letter_3 : decode cX1_letter 3 = .ok (.invokevirtual 216, 3) := dk_182 0 216 (dk_at dksX1_letter_0 3 rfl rfl)
theorem dX1_letter_6 : decode cX1_letter 6 = .ok (.getfield 234, 3) := dk_180 0 234 (dk_at dksX1_letter_0 6 rfl rfl)
theorem dX1_letter_9 : decode cX1_letter 9 = .ok (.iload_n 2, 1) := dk_28 (dk_at dksX1_letter_0 9 rfl rfl)
theorem dX1_letter_10 : decode cX1_letter 10 = .ok (.invokevirtual 71, 3) := dk_182 0 71 (dk_at dksX1_letter_0 10 rfl rfl)
theorem dX1_letter_13 : decode cX1_letter 13 = .ok (.checkcast 141, 3) := dk_192 0 141 (dk_at dksX1_letter_0 13 rfl rfl)
theorem dX1_letter_16 : decode cX1_letter 16 = .ok (.astore 4, 2) := dk_58 4 (dk_at dksX1_letter_0 16 rfl rfl)
theorem dX1_letter_18 : decode cX1_letter 18 = .ok (.iload_n 3, 1) := dk_29 (dk_at dksX1_letter_0 18 rfl rfl)
theorem dX1_letter_19 : decode cX1_letter 19 = .ok (.i2l, 1) := dk_133 (dk_at dksX1_letter_0 19 rfl rfl)
theorem dX1_letter_20 : decode cX1_letter 20 = .ok (.lconst 0, 1) := dk_9 (dk_at dksX1_letter_0 20 rfl rfl)
theorem dX1_letter_21 : decode cX1_letter 21 = .ok (.aload 4, 2) := dk_25 4 (dk_at dksX1_letter_0 21 rfl rfl)
theorem dX1_letter_23 : decode cX1_letter 23 = .ok (.invokevirtual 236, 3) := dk_182 0 236 (dk_at dksX1_letter_1 0 rfl rfl)
theorem dX1_letter_26 : decode cX1_letter 26 = .ok (.iconst 1, 1) := dk_4 (dk_at dksX1_letter_1 3 rfl rfl)
theorem dX1_letter_27 : decode cX1_letter 27 = .ok (.isub, 1) := dk_100 (dk_at dksX1_letter_1 4 rfl rfl)
theorem dX1_letter_28 : decode cX1_letter 28 = .ok (.i2l, 1) := dk_133 (dk_at dksX1_letter_1 5 rfl rfl)
theorem dX1_letter_29 : decode cX1_letter 29 = .ok (.invokestatic 63, 3) := dk_184 0 63 (dk_at dksX1_letter_1 6 rfl rfl)
theorem dX1_letter_32 : decode cX1_letter 32 = .ok (.invokestatic 67, 3) := dk_184 0 67 (dk_at dksX1_letter_1 9 rfl rfl)
theorem dX1_letter_35 : decode cX1_letter 35 = .ok (.aload 4, 2) := dk_25 4 (dk_at dksX1_letter_1 12 rfl rfl)
theorem dX1_letter_37 : decode cX1_letter 37 = .ok (.iload_n 3, 1) := dk_29 (dk_at dksX1_letter_1 14 rfl rfl)
theorem dX1_letter_38 : decode cX1_letter 38 = .ok (.invokevirtual 245, 3) := dk_182 0 245 (dk_at dksX1_letter_1 15 rfl rfl)
theorem dX1_letter_41 : decode cX1_letter 41 = .ok (.ireturn, 1) := dk_172 (dk_at dksX1_letter_1 18 rfl rfl)
abbrev cX1_insertWord : ByteArray := prog_1_method_23_code
def yX1_insertWord : MethodName := ⟨RX1, "insertWord", "(II)I"⟩
def dkwX1_insertWord_6 : List UInt8 := [182, 1, 11, 167, 255, 219, 42, 182, 0, 192, 45, 182, 0, 188, 172]
abbrev dktX1_insertWord_6 : List UInt8 := dkwX1_insertWord_6 ++ []
def dkwX1_insertWord_5 : List UInt8 := [185, 0, 184, 1, 0, 192, 1, 7, 58, 6, 25, 6, 180, 1, 9, 27, 160, 0, 9, 25, 6, 28]
abbrev dktX1_insertWord_5 : List UInt8 := dkwX1_insertWord_5 ++ dktX1_insertWord_6
def dkwX1_insertWord_4 : List UInt8 := [42, 180, 0, 19, 180, 0, 148, 182, 0, 175, 58, 5, 25, 5, 185, 0, 179, 1, 0, 153, 0, 33, 25, 5]
abbrev dktX1_insertWord_4 : List UInt8 := dkwX1_insertWord_4 ++ dktX1_insertWord_5
def dkwX1_insertWord_3 : List UInt8 := [182, 0, 252, 28, 154, 0, 16, 45, 180, 0, 237, 4, 3, 184, 0, 255, 182, 1, 3, 87, 45, 182, 0, 205]
abbrev dktX1_insertWord_3 : List UInt8 := dkwX1_insertWord_3 ++ dktX1_insertWord_4
def dkwX1_insertWord_2 : List UInt8 := [25, 4, 182, 0, 252, 45, 180, 0, 237, 28, 28, 154, 0, 7, 4, 167, 0, 4, 3, 184, 0, 255]
abbrev dktX1_insertWord_2 : List UInt8 := dkwX1_insertWord_2 ++ dktX1_insertWord_3
def dkwX1_insertWord_1 : List UInt8 := [58, 4, 45, 182, 0, 188, 16, 120, 162, 0, 7, 4, 167, 0, 4, 3, 184, 0, 93, 45, 180, 0, 234, 28]
abbrev dktX1_insertWord_1 : List UInt8 := dkwX1_insertWord_1 ++ dktX1_insertWord_2
def dkwX1_insertWord_0 : List UInt8 := [42, 27, 182, 0, 77, 78, 28, 133, 9, 45, 182, 0, 188, 133, 184, 0, 63, 184, 0, 67, 42, 182, 0, 249]
abbrev dktX1_insertWord_0 : List UInt8 := dkwX1_insertWord_0 ++ dktX1_insertWord_1
theorem dksX1_insertWord_0 : cX1_insertWord.data.toList.drop 0 = dktX1_insertWord_0 := by decide +kernel
theorem dksX1_insertWord_1 : cX1_insertWord.data.toList.drop 24 = dktX1_insertWord_1 := dk_seg dksX1_insertWord_0 24 rfl rfl
theorem dksX1_insertWord_2 : cX1_insertWord.data.toList.drop 48 = dktX1_insertWord_2 := dk_seg dksX1_insertWord_1 24 rfl rfl
theorem dksX1_insertWord_3 : cX1_insertWord.data.toList.drop 70 = dktX1_insertWord_3 := dk_seg dksX1_insertWord_2 22 rfl rfl
theorem dksX1_insertWord_4 : cX1_insertWord.data.toList.drop 94 = dktX1_insertWord_4 := dk_seg dksX1_insertWord_3 24 rfl rfl
theorem dksX1_insertWord_5 : cX1_insertWord.data.toList.drop 118 = dktX1_insertWord_5 := dk_seg dksX1_insertWord_4 24 rfl rfl
theorem dksX1_insertWord_6 : cX1_insertWord.data.toList.drop 140 = dktX1_insertWord_6 := dk_seg dksX1_insertWord_5 22 rfl rfl
theorem dX1_insertWord_0 : decode cX1_insertWord 0 = .ok (.aload_n 0, 1) := dk_42 (dk_at dksX1_insertWord_0 0 rfl rfl)
theorem dX1_insertWord_1 : decode cX1_insertWord 1 = .ok (.iload_n 1, 1) := dk_27 (dk_at dksX1_insertWord_0 1 rfl rfl)
theorem dX1_insertWord_2 : decode cX1_insertWord 2 = .ok (.invokevirtual 77, 3) := dk_182 0 77 (dk_at dksX1_insertWord_0 2 rfl rfl)
theorem dX1_insertWord_5 : decode cX1_insertWord 5 = .ok (.astore_n 3, 1) := dk_78 (dk_at dksX1_insertWord_0 5 rfl rfl)
theorem dX1_insertWord_6 : decode cX1_insertWord 6 = .ok (.iload_n 2, 1) := dk_28 (dk_at dksX1_insertWord_0 6 rfl rfl)
theorem dX1_insertWord_7 : decode cX1_insertWord 7 = .ok (.i2l, 1) := dk_133 (dk_at dksX1_insertWord_0 7 rfl rfl)
theorem dX1_insertWord_8 : decode cX1_insertWord 8 = .ok (.lconst 0, 1) := dk_9 (dk_at dksX1_insertWord_0 8 rfl rfl)
theorem dX1_insertWord_9 : decode cX1_insertWord 9 = .ok (.aload_n 3, 1) := dk_45 (dk_at dksX1_insertWord_0 9 rfl rfl)
theorem dX1_insertWord_10 : decode cX1_insertWord 10 = .ok (.invokevirtual 188, 3) := dk_182 0 188 (dk_at dksX1_insertWord_0 10 rfl rfl)
theorem dX1_insertWord_13 : decode cX1_insertWord 13 = .ok (.i2l, 1) := dk_133 (dk_at dksX1_insertWord_0 13 rfl rfl)
theorem dX1_insertWord_14 : decode cX1_insertWord 14 = .ok (.invokestatic 63, 3) := dk_184 0 63 (dk_at dksX1_insertWord_0 14 rfl rfl)
theorem dX1_insertWord_17 : decode cX1_insertWord 17 = .ok (.invokestatic 67, 3) := dk_184 0 67 (dk_at dksX1_insertWord_0 17 rfl rfl)
theorem dX1_insertWord_20 : decode cX1_insertWord 20 = .ok (.aload_n 0, 1) := dk_42 (dk_at dksX1_insertWord_0 20 rfl rfl)
theorem dX1_insertWord_21 : decode cX1_insertWord 21 = .ok (.invokevirtual 249, 3) := dk_182 0 249 (dk_at dksX1_insertWord_0 21 rfl rfl)
theorem dX1_insertWord_24 : decode cX1_insertWord 24 = .ok (.astore 4, 2) := dk_58 4 (dk_at dksX1_insertWord_1 0 rfl rfl)
theorem dX1_insertWord_26 : decode cX1_insertWord 26 = .ok (.aload_n 3, 1) := dk_45 (dk_at dksX1_insertWord_1 2 rfl rfl)
theorem dX1_insertWord_27 : decode cX1_insertWord 27 = .ok (.invokevirtual 188, 3) := dk_182 0 188 (dk_at dksX1_insertWord_1 3 rfl rfl)
theorem dX1_insertWord_30 : decode cX1_insertWord 30 = .ok (.bipush 120, 2) := dk_16 120 (dk_at dksX1_insertWord_1 6 rfl rfl)
theorem dX1_insertWord_32 : decode cX1_insertWord 32 = .ok (.if_icmp .ge 7, 3) := dk_162 0 7 (dk_at dksX1_insertWord_1 8 rfl rfl)
theorem dX1_insertWord_35 : decode cX1_insertWord 35 = .ok (.iconst 1, 1) := dk_4 (dk_at dksX1_insertWord_1 11 rfl rfl)
theorem dX1_insertWord_36 : decode cX1_insertWord 36 = .ok (.goto 4, 3) := dk_167 0 4 (dk_at dksX1_insertWord_1 12 rfl rfl)
theorem dX1_insertWord_39 : decode cX1_insertWord 39 = .ok (.iconst 0, 1) := dk_3 (dk_at dksX1_insertWord_1 15 rfl rfl)
theorem dX1_insertWord_40 : decode cX1_insertWord 40 = .ok (.invokestatic 93, 3) := dk_184 0 93 (dk_at dksX1_insertWord_1 16 rfl rfl)
theorem dX1_insertWord_43 : decode cX1_insertWord 43 = .ok (.aload_n 3, 1) := dk_45 (dk_at dksX1_insertWord_1 19 rfl rfl)
theorem dX1_insertWord_44 : decode cX1_insertWord 44 = .ok (.getfield 234, 3) := dk_180 0 234 (dk_at dksX1_insertWord_1 20 rfl rfl)
theorem dX1_insertWord_47 : decode cX1_insertWord 47 = .ok (.iload_n 2, 1) := dk_28 (dk_at dksX1_insertWord_1 23 rfl rfl)
theorem dX1_insertWord_48 : decode cX1_insertWord 48 = .ok (.aload 4, 2) := dk_25 4 (dk_at dksX1_insertWord_2 0 rfl rfl)
theorem dX1_insertWord_50 : decode cX1_insertWord 50 = .ok (.invokevirtual 252, 3) := dk_182 0 252 (dk_at dksX1_insertWord_2 2 rfl rfl)
theorem dX1_insertWord_53 : decode cX1_insertWord 53 = .ok (.aload_n 3, 1) := dk_45 (dk_at dksX1_insertWord_2 5 rfl rfl)
theorem dX1_insertWord_54 : decode cX1_insertWord 54 = .ok (.getfield 237, 3) := dk_180 0 237 (dk_at dksX1_insertWord_2 6 rfl rfl)
theorem dX1_insertWord_57 : decode cX1_insertWord 57 = .ok (.iload_n 2, 1) := dk_28 (dk_at dksX1_insertWord_2 9 rfl rfl)
theorem dX1_insertWord_58 : decode cX1_insertWord 58 = .ok (.iload_n 2, 1) := dk_28 (dk_at dksX1_insertWord_2 10 rfl rfl)
theorem dX1_insertWord_59 : decode cX1_insertWord 59 = .ok (.ifCond .ne 7, 3) := dk_154 0 7 (dk_at dksX1_insertWord_2 11 rfl rfl)
theorem dX1_insertWord_62 : decode cX1_insertWord 62 = .ok (.iconst 1, 1) := dk_4 (dk_at dksX1_insertWord_2 14 rfl rfl)
theorem dX1_insertWord_63 : decode cX1_insertWord 63 = .ok (.goto 4, 3) := dk_167 0 4 (dk_at dksX1_insertWord_2 15 rfl rfl)
theorem dX1_insertWord_66 : decode cX1_insertWord 66 = .ok (.iconst 0, 1) := dk_3 (dk_at dksX1_insertWord_2 18 rfl rfl)
theorem dX1_insertWord_67 : decode cX1_insertWord 67 = .ok (.invokestatic 255, 3) := dk_184 0 255 (dk_at dksX1_insertWord_2 19 rfl rfl)
theorem dX1_insertWord_70 : decode cX1_insertWord 70 = .ok (.invokevirtual 252, 3) := dk_182 0 252 (dk_at dksX1_insertWord_3 0 rfl rfl)
theorem dX1_insertWord_73 : decode cX1_insertWord 73 = .ok (.iload_n 2, 1) := dk_28 (dk_at dksX1_insertWord_3 3 rfl rfl)
theorem dX1_insertWord_74 : decode cX1_insertWord 74 = .ok (.ifCond .ne 16, 3) := dk_154 0 16 (dk_at dksX1_insertWord_3 4 rfl rfl)
theorem dX1_insertWord_77 : decode cX1_insertWord 77 = .ok (.aload_n 3, 1) := dk_45 (dk_at dksX1_insertWord_3 7 rfl rfl)
theorem dX1_insertWord_78 : decode cX1_insertWord 78 = .ok (.getfield 237, 3) := dk_180 0 237 (dk_at dksX1_insertWord_3 8 rfl rfl)
theorem dX1_insertWord_81 : decode cX1_insertWord 81 = .ok (.iconst 1, 1) := dk_4 (dk_at dksX1_insertWord_3 11 rfl rfl)
theorem dX1_insertWord_82 : decode cX1_insertWord 82 = .ok (.iconst 0, 1) := dk_3 (dk_at dksX1_insertWord_3 12 rfl rfl)
theorem dX1_insertWord_83 : decode cX1_insertWord 83 = .ok (.invokestatic 255, 3) := dk_184 0 255 (dk_at dksX1_insertWord_3 13 rfl rfl)
theorem dX1_insertWord_86 : decode cX1_insertWord 86 = .ok (.invokevirtual 259, 3) := dk_182 1 3 (dk_at dksX1_insertWord_3 16 rfl rfl)
theorem dX1_insertWord_89 : decode cX1_insertWord 89 = .ok (.pop, 1) := dk_87 (dk_at dksX1_insertWord_3 19 rfl rfl)
theorem dX1_insertWord_90 : decode cX1_insertWord 90 = .ok (.aload_n 3, 1) := dk_45 (dk_at dksX1_insertWord_3 20 rfl rfl)
theorem dX1_insertWord_91 : decode cX1_insertWord 91 = .ok (.invokevirtual 205, 3) := dk_182 0 205 (dk_at dksX1_insertWord_3 21 rfl rfl)
theorem dX1_insertWord_94 : decode cX1_insertWord 94 = .ok (.aload_n 0, 1) := dk_42 (dk_at dksX1_insertWord_4 0 rfl rfl)
theorem dX1_insertWord_95 : decode cX1_insertWord 95 = .ok (.getfield 19, 3) := dk_180 0 19 (dk_at dksX1_insertWord_4 1 rfl rfl)
theorem dX1_insertWord_98 : decode cX1_insertWord 98 = .ok (.getfield 148, 3) := dk_180 0 148 (dk_at dksX1_insertWord_4 4 rfl rfl)
theorem dX1_insertWord_101 : decode cX1_insertWord 101 = .ok (.invokevirtual 175, 3) := dk_182 0 175 (dk_at dksX1_insertWord_4 7 rfl rfl)
theorem dX1_insertWord_104 : decode cX1_insertWord 104 = .ok (.astore 5, 2) := dk_58 5 (dk_at dksX1_insertWord_4 10 rfl rfl)
theorem dX1_insertWord_106 : decode cX1_insertWord 106 = .ok (.aload 5, 2) := dk_25 5 (dk_at dksX1_insertWord_4 12 rfl rfl)
theorem dX1_insertWord_108 : decode cX1_insertWord 108 = .ok (.invokeinterface 179 1, 5) := by decide +kernel
theorem dX1_insertWord_113 : decode cX1_insertWord 113 = .ok (.ifCond .eq 33, 3) := dk_153 0 33 (dk_at dksX1_insertWord_4 19 rfl rfl)
theorem dX1_insertWord_116 : decode cX1_insertWord 116 = .ok (.aload 5, 2) := dk_25 5 (dk_at dksX1_insertWord_4 22 rfl rfl)
theorem dX1_insertWord_118 : decode cX1_insertWord 118 = .ok (.invokeinterface 184 1, 5) := by decide +kernel
theorem dX1_insertWord_123 : decode cX1_insertWord 123 = .ok (.checkcast 263, 3) := dk_192 1 7 (dk_at dksX1_insertWord_5 5 rfl rfl)
theorem dX1_insertWord_126 : decode cX1_insertWord 126 = .ok (.astore 6, 2) := dk_58 6 (dk_at dksX1_insertWord_5 8 rfl rfl)
theorem dX1_insertWord_128 : decode cX1_insertWord 128 = .ok (.aload 6, 2) := dk_25 6 (dk_at dksX1_insertWord_5 10 rfl rfl)
theorem dX1_insertWord_130 : decode cX1_insertWord 130 = .ok (.getfield 265, 3) := dk_180 1 9 (dk_at dksX1_insertWord_5 12 rfl rfl)
theorem dX1_insertWord_133 : decode cX1_insertWord 133 = .ok (.iload_n 1, 1) := dk_27 (dk_at dksX1_insertWord_5 15 rfl rfl)
theorem dX1_insertWord_134 : decode cX1_insertWord 134 = .ok (.if_icmp .ne 9, 3) := dk_160 0 9 (dk_at dksX1_insertWord_5 16 rfl rfl)
theorem dX1_insertWord_137 : decode cX1_insertWord 137 = .ok (.aload 6, 2) := dk_25 6 (dk_at dksX1_insertWord_5 19 rfl rfl)
theorem dX1_insertWord_139 : decode cX1_insertWord 139 = .ok (.iload_n 2, 1) := dk_28 (dk_at dksX1_insertWord_5 21 rfl rfl)
theorem dX1_insertWord_140 : decode cX1_insertWord 140 = .ok (.invokevirtual 267, 3) := dk_182 1 11 (dk_at dksX1_insertWord_6 0 rfl rfl)
theorem dX1_insertWord_143 : decode cX1_insertWord 143 = .ok (.goto (-37), 3) := dk_167 255 219 (dk_at dksX1_insertWord_6 3 rfl rfl)
theorem dX1_insertWord_146 : decode cX1_insertWord 146 = .ok (.aload_n 0, 1) := dk_42 (dk_at dksX1_insertWord_6 6 rfl rfl)
theorem dX1_insertWord_147 : decode cX1_insertWord 147 = .ok (.invokevirtual 192, 3) := dk_182 0 192 (dk_at dksX1_insertWord_6 7 rfl rfl)
theorem dX1_insertWord_150 : decode cX1_insertWord 150 = .ok (.aload_n 3, 1) := dk_45 (dk_at dksX1_insertWord_6 10 rfl rfl)
theorem dX1_insertWord_151 : decode cX1_insertWord 151 = .ok (.invokevirtual 188, 3) := dk_182 0 188 (dk_at dksX1_insertWord_6 11 rfl rfl)
theorem dX1_insertWord_154 : decode cX1_insertWord 154 = .ok (.ireturn, 1) := dk_172 (dk_at dksX1_insertWord_6 14 rfl rfl)
abbrev cX1_oneWord : ByteArray := prog_1_method_15_code
def yX1_oneWord : MethodName := ⟨RX1, "oneWord", "()Ljava/lang/String;"⟩
def dkwX1_oneWord_0 : List UInt8 := [42, 4, 4, 182, 0, 138, 3, 182, 0, 71, 192, 0, 141, 176]
abbrev dktX1_oneWord_0 : List UInt8 := dkwX1_oneWord_0 ++ []
theorem dksX1_oneWord_0 : cX1_oneWord.data.toList.drop 0 = dktX1_oneWord_0 := by decide +kernel
theorem dX1_oneWord_0 : decode cX1_oneWord 0 = .ok (.aload_n 0, 1) := dk_42 (dk_at dksX1_oneWord_0 0 rfl rfl)
theorem dX1_oneWord_1 : decode cX1_oneWord 1 = .ok (.iconst 1, 1) := dk_4 (dk_at dksX1_oneWord_0 1 rfl rfl)
theorem dX1_oneWord_2 : decode cX1_oneWord 2 = .ok (.iconst 1, 1) := dk_4 (dk_at dksX1_oneWord_0 2 rfl rfl)
theorem dX1_oneWord_3 : decode cX1_oneWord 3 = .ok (.invokevirtual 138, 3) := dk_182 0 138 (dk_at dksX1_oneWord_0 3 rfl rfl)
theorem dX1_oneWord_6 : decode cX1_oneWord 6 = .ok (.iconst 0, 1) := dk_3 (dk_at dksX1_oneWord_0 6 rfl rfl)
theorem dX1_oneWord_7 : decode cX1_oneWord 7 = .ok (.invokevirtual 71, 3) := dk_182 0 71 (dk_at dksX1_oneWord_0 7 rfl rfl)
theorem dX1_oneWord_10 : decode cX1_oneWord 10 = .ok (.checkcast 141, 3) := dk_192 0 141 (dk_at dksX1_oneWord_0 10 rfl rfl)
theorem dX1_oneWord_13 : decode cX1_oneWord 13 = .ok (.areturn, 1) := dk_176 (dk_at dksX1_oneWord_0 13 rfl rfl)
abbrev cX1_deleteWord : ByteArray := prog_1_method_24_code
def yX1_deleteWord : MethodName := ⟨RX1, "deleteWord", "(II)I"⟩
def dkwX1_deleteWord_5 : List UInt8 := [182, 0, 188, 182, 1, 17, 167, 255, 215, 42, 1, 181, 0, 44, 45, 182, 0, 188, 172]
abbrev dktX1_deleteWord_5 : List UInt8 := dkwX1_deleteWord_5 ++ []
def dkwX1_deleteWord_4 : List UInt8 := [185, 0, 184, 1, 0, 192, 1, 7, 58, 7, 25, 7, 180, 1, 9, 27, 160, 0, 13, 25, 7, 28, 45]
abbrev dktX1_deleteWord_4 : List UInt8 := dkwX1_deleteWord_4 ++ dktX1_deleteWord_5
def dkwX1_deleteWord_3 : List UInt8 := [180, 0, 19, 180, 0, 148, 182, 0, 175, 58, 6, 25, 6, 185, 0, 179, 1, 0, 153, 0, 37, 25, 6]
abbrev dktX1_deleteWord_3 : List UInt8 := dkwX1_deleteWord_3 ++ dktX1_deleteWord_4
def dkwX1_deleteWord_2 : List UInt8 := [182, 0, 242, 54, 5, 45, 180, 0, 237, 3, 4, 184, 0, 255, 182, 1, 3, 87, 45, 182, 0, 205, 42]
abbrev dktX1_deleteWord_2 : List UInt8 := dkwX1_deleteWord_2 ++ dktX1_deleteWord_3
def dkwX1_deleteWord_1 : List UInt8 := [180, 0, 234, 28, 182, 1, 14, 192, 0, 141, 58, 4, 45, 180, 0, 237, 28, 182, 1, 14, 192, 0, 240]
abbrev dktX1_deleteWord_1 : List UInt8 := dkwX1_deleteWord_1 ++ dktX1_deleteWord_2
def dkwX1_deleteWord_0 : List UInt8 := [42, 27, 28, 182, 0, 216, 78, 45, 182, 0, 188, 4, 164, 0, 7, 4, 167, 0, 4, 3, 184, 0, 93, 45]
abbrev dktX1_deleteWord_0 : List UInt8 := dkwX1_deleteWord_0 ++ dktX1_deleteWord_1
theorem dksX1_deleteWord_0 : cX1_deleteWord.data.toList.drop 0 = dktX1_deleteWord_0 := by decide +kernel
theorem dksX1_deleteWord_1 : cX1_deleteWord.data.toList.drop 24 = dktX1_deleteWord_1 := dk_seg dksX1_deleteWord_0 24 rfl rfl
theorem dksX1_deleteWord_2 : cX1_deleteWord.data.toList.drop 47 = dktX1_deleteWord_2 := dk_seg dksX1_deleteWord_1 23 rfl rfl
theorem dksX1_deleteWord_3 : cX1_deleteWord.data.toList.drop 70 = dktX1_deleteWord_3 := dk_seg dksX1_deleteWord_2 23 rfl rfl
theorem dksX1_deleteWord_4 : cX1_deleteWord.data.toList.drop 93 = dktX1_deleteWord_4 := dk_seg dksX1_deleteWord_3 23 rfl rfl
theorem dksX1_deleteWord_5 : cX1_deleteWord.data.toList.drop 116 = dktX1_deleteWord_5 := dk_seg dksX1_deleteWord_4 23 rfl rfl
theorem dX1_deleteWord_0 : decode cX1_deleteWord 0 = .ok (.aload_n 0, 1) := dk_42 (dk_at dksX1_deleteWord_0 0 rfl rfl)
theorem dX1_deleteWord_1 : decode cX1_deleteWord 1 = .ok (.iload_n 1, 1) := dk_27 (dk_at dksX1_deleteWord_0 1 rfl rfl)
theorem dX1_deleteWord_2 : decode cX1_deleteWord 2 = .ok (.iload_n 2, 1) := dk_28 (dk_at dksX1_deleteWord_0 2 rfl rfl)
theorem dX1_deleteWord_3 : decode cX1_deleteWord 3 = .ok (.invokevirtual 216, 3) := dk_182 0 216 (dk_at dksX1_deleteWord_0 3 rfl rfl)
theorem dX1_deleteWord_6 : decode cX1_deleteWord 6 = .ok (.astore_n 3, 1) := dk_78 (dk_at dksX1_deleteWord_0 6 rfl rfl)
theorem dX1_deleteWord_7 : decode cX1_deleteWord 7 = .ok (.aload_n 3, 1) := dk_45 (dk_at dksX1_deleteWord_0 7 rfl rfl)
theorem dX1_deleteWord_8 : decode cX1_deleteWord 8 = .ok (.invokevirtual 188, 3) := dk_182 0 188 (dk_at dksX1_deleteWord_0 8 rfl rfl)
theorem dX1_deleteWord_11 : decode cX1_deleteWord 11 = .ok (.iconst 1, 1) := dk_4 (dk_at dksX1_deleteWord_0 11 rfl rfl)
theorem dX1_deleteWord_12 : decode cX1_deleteWord 12 = .ok (.if_icmp .le 7, 3) := dk_164 0 7 (dk_at dksX1_deleteWord_0 12 rfl rfl)
theorem dX1_deleteWord_15 : decode cX1_deleteWord 15 = .ok (.iconst 1, 1) := dk_4 (dk_at dksX1_deleteWord_0 15 rfl rfl)
theorem dX1_deleteWord_16 : decode cX1_deleteWord 16 = .ok (.goto 4, 3) := dk_167 0 4 (dk_at dksX1_deleteWord_0 16 rfl rfl)
theorem dX1_deleteWord_19 : decode cX1_deleteWord 19 = .ok (.iconst 0, 1) := dk_3 (dk_at dksX1_deleteWord_0 19 rfl rfl)
theorem dX1_deleteWord_20 : decode cX1_deleteWord 20 = .ok (.invokestatic 93, 3) := dk_184 0 93 (dk_at dksX1_deleteWord_0 20 rfl rfl)
theorem dX1_deleteWord_23 : decode cX1_deleteWord 23 = .ok (.aload_n 3, 1) := dk_45 (dk_at dksX1_deleteWord_0 23 rfl rfl)
theorem dX1_deleteWord_24 : decode cX1_deleteWord 24 = .ok (.getfield 234, 3) := dk_180 0 234 (dk_at dksX1_deleteWord_1 0 rfl rfl)
theorem dX1_deleteWord_27 : decode cX1_deleteWord 27 = .ok (.iload_n 2, 1) := dk_28 (dk_at dksX1_deleteWord_1 3 rfl rfl)
theorem dX1_deleteWord_28 : decode cX1_deleteWord 28 = .ok (.invokevirtual 270, 3) := dk_182 1 14 (dk_at dksX1_deleteWord_1 4 rfl rfl)
theorem dX1_deleteWord_31 : decode cX1_deleteWord 31 = .ok (.checkcast 141, 3) := dk_192 0 141 (dk_at dksX1_deleteWord_1 7 rfl rfl)
theorem dX1_deleteWord_34 : decode cX1_deleteWord 34 = .ok (.astore 4, 2) := dk_58 4 (dk_at dksX1_deleteWord_1 10 rfl rfl)
theorem dX1_deleteWord_36 : decode cX1_deleteWord 36 = .ok (.aload_n 3, 1) := dk_45 (dk_at dksX1_deleteWord_1 12 rfl rfl)
theorem dX1_deleteWord_37 : decode cX1_deleteWord 37 = .ok (.getfield 237, 3) := dk_180 0 237 (dk_at dksX1_deleteWord_1 13 rfl rfl)
theorem dX1_deleteWord_40 : decode cX1_deleteWord 40 = .ok (.iload_n 2, 1) := dk_28 (dk_at dksX1_deleteWord_1 16 rfl rfl)
theorem dX1_deleteWord_41 : decode cX1_deleteWord 41 = .ok (.invokevirtual 270, 3) := dk_182 1 14 (dk_at dksX1_deleteWord_1 17 rfl rfl)
theorem dX1_deleteWord_44 : decode cX1_deleteWord 44 = .ok (.checkcast 240, 3) := dk_192 0 240 (dk_at dksX1_deleteWord_1 20 rfl rfl)
theorem dX1_deleteWord_47 : decode cX1_deleteWord 47 = .ok (.invokevirtual 242, 3) := dk_182 0 242 (dk_at dksX1_deleteWord_2 0 rfl rfl)
theorem dX1_deleteWord_50 : decode cX1_deleteWord 50 = .ok (.istore 5, 2) := dk_54 5 (dk_at dksX1_deleteWord_2 3 rfl rfl)
theorem dX1_deleteWord_52 : decode cX1_deleteWord 52 = .ok (.aload_n 3, 1) := dk_45 (dk_at dksX1_deleteWord_2 5 rfl rfl)
theorem dX1_deleteWord_53 : decode cX1_deleteWord 53 = .ok (.getfield 237, 3) := dk_180 0 237 (dk_at dksX1_deleteWord_2 6 rfl rfl)
theorem dX1_deleteWord_56 : decode cX1_deleteWord 56 = .ok (.iconst 0, 1) := dk_3 (dk_at dksX1_deleteWord_2 9 rfl rfl)
theorem dX1_deleteWord_57 : decode cX1_deleteWord 57 = .ok (.iconst 1, 1) := dk_4 (dk_at dksX1_deleteWord_2 10 rfl rfl)
theorem dX1_deleteWord_58 : decode cX1_deleteWord 58 = .ok (.invokestatic 255, 3) := dk_184 0 255 (dk_at dksX1_deleteWord_2 11 rfl rfl)
theorem dX1_deleteWord_61 : decode cX1_deleteWord 61 = .ok (.invokevirtual 259, 3) := dk_182 1 3 (dk_at dksX1_deleteWord_2 14 rfl rfl)
theorem dX1_deleteWord_64 : decode cX1_deleteWord 64 = .ok (.pop, 1) := dk_87 (dk_at dksX1_deleteWord_2 17 rfl rfl)
theorem dX1_deleteWord_65 : decode cX1_deleteWord 65 = .ok (.aload_n 3, 1) := dk_45 (dk_at dksX1_deleteWord_2 18 rfl rfl)
theorem dX1_deleteWord_66 : decode cX1_deleteWord 66 = .ok (.invokevirtual 205, 3) := dk_182 0 205 (dk_at dksX1_deleteWord_2 19 rfl rfl)
theorem dX1_deleteWord_69 : decode cX1_deleteWord 69 = .ok (.aload_n 0, 1) := dk_42 (dk_at dksX1_deleteWord_2 22 rfl rfl)
theorem dX1_deleteWord_70 : decode cX1_deleteWord 70 = .ok (.getfield 19, 3) := dk_180 0 19 (dk_at dksX1_deleteWord_3 0 rfl rfl)
theorem dX1_deleteWord_73 : decode cX1_deleteWord 73 = .ok (.getfield 148, 3) := dk_180 0 148 (dk_at dksX1_deleteWord_3 3 rfl rfl)
theorem dX1_deleteWord_76 : decode cX1_deleteWord 76 = .ok (.invokevirtual 175, 3) := dk_182 0 175 (dk_at dksX1_deleteWord_3 6 rfl rfl)
theorem dX1_deleteWord_79 : decode cX1_deleteWord 79 = .ok (.astore 6, 2) := dk_58 6 (dk_at dksX1_deleteWord_3 9 rfl rfl)
theorem dX1_deleteWord_81 : decode cX1_deleteWord 81 = .ok (.aload 6, 2) := dk_25 6 (dk_at dksX1_deleteWord_3 11 rfl rfl)
theorem dX1_deleteWord_83 : decode cX1_deleteWord 83 = .ok (.invokeinterface 179 1, 5) := by decide +kernel
theorem dX1_deleteWord_88 : decode cX1_deleteWord 88 = .ok (.ifCond .eq 37, 3) := dk_153 0 37 (dk_at dksX1_deleteWord_3 18 rfl rfl)
theorem dX1_deleteWord_91 : decode cX1_deleteWord 91 = .ok (.aload 6, 2) := dk_25 6 (dk_at dksX1_deleteWord_3 21 rfl rfl)
theorem dX1_deleteWord_93 : decode cX1_deleteWord 93 = .ok (.invokeinterface 184 1, 5) := by decide +kernel
theorem dX1_deleteWord_98 : decode cX1_deleteWord 98 = .ok (.checkcast 263, 3) := dk_192 1 7 (dk_at dksX1_deleteWord_4 5 rfl rfl)
theorem dX1_deleteWord_101 : decode cX1_deleteWord 101 = .ok (.astore 7, 2) := dk_58 7 (dk_at dksX1_deleteWord_4 8 rfl rfl)
theorem dX1_deleteWord_103 : decode cX1_deleteWord 103 = .ok (.aload 7, 2) := dk_25 7 (dk_at dksX1_deleteWord_4 10 rfl rfl)
theorem dX1_deleteWord_105 : decode cX1_deleteWord 105 = .ok (.getfield 265, 3) := dk_180 1 9 (dk_at dksX1_deleteWord_4 12 rfl rfl)
theorem dX1_deleteWord_108 : decode cX1_deleteWord 108 = .ok (.iload_n 1, 1) := dk_27 (dk_at dksX1_deleteWord_4 15 rfl rfl)
theorem dX1_deleteWord_109 : decode cX1_deleteWord 109 = .ok (.if_icmp .ne 13, 3) := dk_160 0 13 (dk_at dksX1_deleteWord_4 16 rfl rfl)
theorem dX1_deleteWord_112 : decode cX1_deleteWord 112 = .ok (.aload 7, 2) := dk_25 7 (dk_at dksX1_deleteWord_4 19 rfl rfl)
theorem dX1_deleteWord_114 : decode cX1_deleteWord 114 = .ok (.iload_n 2, 1) := dk_28 (dk_at dksX1_deleteWord_4 21 rfl rfl)
theorem dX1_deleteWord_115 : decode cX1_deleteWord 115 = .ok (.aload_n 3, 1) := dk_45 (dk_at dksX1_deleteWord_4 22 rfl rfl)
theorem dX1_deleteWord_116 : decode cX1_deleteWord 116 = .ok (.invokevirtual 188, 3) := dk_182 0 188 (dk_at dksX1_deleteWord_5 0 rfl rfl)
theorem dX1_deleteWord_119 : decode cX1_deleteWord 119 = .ok (.invokevirtual 273, 3) := dk_182 1 17 (dk_at dksX1_deleteWord_5 3 rfl rfl)
theorem dX1_deleteWord_122 : decode cX1_deleteWord 122 = .ok (.goto (-41), 3) := dk_167 255 215 (dk_at dksX1_deleteWord_5 6 rfl rfl)
theorem dX1_deleteWord_125 : decode cX1_deleteWord 125 = .ok (.aload_n 0, 1) := dk_42 (dk_at dksX1_deleteWord_5 9 rfl rfl)
theorem dX1_deleteWord_126 : decode cX1_deleteWord 126 = .ok (.aconst_null, 1) := dk_1 (dk_at dksX1_deleteWord_5 10 rfl rfl)
theorem dX1_deleteWord_127 : decode cX1_deleteWord 127 = .ok (.putfield 44, 3) := dk_181 0 44 (dk_at dksX1_deleteWord_5 11 rfl rfl)
theorem dX1_deleteWord_130 : decode cX1_deleteWord 130 = .ok (.aload_n 3, 1) := dk_45 (dk_at dksX1_deleteWord_5 14 rfl rfl)
theorem dX1_deleteWord_131 : decode cX1_deleteWord 131 = .ok (.invokevirtual 188, 3) := dk_182 0 188 (dk_at dksX1_deleteWord_5 15 rfl rfl)
theorem dX1_deleteWord_134 : decode cX1_deleteWord 134 = .ok (.ireturn, 1) := dk_172 (dk_at dksX1_deleteWord_5 18 rfl rfl)
abbrev cX1_setParagraph : ByteArray := prog_1_method_25_code
def yX1_setParagraph : MethodName := ⟨RX1, "setParagraph", "(IIZ)Z"⟩
def dkwX1_setParagraph_2 : List UInt8 := [21, 5, 172]
abbrev dktX1_setParagraph_2 : List UInt8 := dkwX1_setParagraph_2 ++ []
def dkwX1_setParagraph_1 : List UInt8 := [180, 0, 237, 28, 29, 184, 0, 255, 182, 1, 3, 192, 0, 240, 182, 0, 242, 54, 5, 25, 4, 182, 0, 205]
abbrev dktX1_setParagraph_1 : List UInt8 := dkwX1_setParagraph_1 ++ dktX1_setParagraph_2
def dkwX1_setParagraph_0 : List UInt8 := [42, 27, 28, 182, 0, 216, 58, 4, 28, 158, 0, 7, 4, 167, 0, 4, 3, 184, 0, 67, 25, 4]
abbrev dktX1_setParagraph_0 : List UInt8 := dkwX1_setParagraph_0 ++ dktX1_setParagraph_1
theorem dksX1_setParagraph_0 : cX1_setParagraph.data.toList.drop 0 = dktX1_setParagraph_0 := by decide +kernel
theorem dksX1_setParagraph_1 : cX1_setParagraph.data.toList.drop 22 = dktX1_setParagraph_1 := dk_seg dksX1_setParagraph_0 22 rfl rfl
theorem dksX1_setParagraph_2 : cX1_setParagraph.data.toList.drop 46 = dktX1_setParagraph_2 := dk_seg dksX1_setParagraph_1 24 rfl rfl
theorem dX1_setParagraph_0 : decode cX1_setParagraph 0 = .ok (.aload_n 0, 1) := dk_42 (dk_at dksX1_setParagraph_0 0 rfl rfl)
theorem dX1_setParagraph_1 : decode cX1_setParagraph 1 = .ok (.iload_n 1, 1) := dk_27 (dk_at dksX1_setParagraph_0 1 rfl rfl)
theorem dX1_setParagraph_2 : decode cX1_setParagraph 2 = .ok (.iload_n 2, 1) := dk_28 (dk_at dksX1_setParagraph_0 2 rfl rfl)
theorem dX1_setParagraph_3 : decode cX1_setParagraph 3 = .ok (.invokevirtual 216, 3) := dk_182 0 216 (dk_at dksX1_setParagraph_0 3 rfl rfl)
theorem dX1_setParagraph_6 : decode cX1_setParagraph 6 = .ok (.astore 4, 2) := dk_58 4 (dk_at dksX1_setParagraph_0 6 rfl rfl)
theorem dX1_setParagraph_8 : decode cX1_setParagraph 8 = .ok (.iload_n 2, 1) := dk_28 (dk_at dksX1_setParagraph_0 8 rfl rfl)
theorem dX1_setParagraph_9 : decode cX1_setParagraph 9 = .ok (.ifCond .le 7, 3) := dk_158 0 7 (dk_at dksX1_setParagraph_0 9 rfl rfl)
theorem dX1_setParagraph_12 : decode cX1_setParagraph 12 = .ok (.iconst 1, 1) := dk_4 (dk_at dksX1_setParagraph_0 12 rfl rfl)
theorem dX1_setParagraph_13 : decode cX1_setParagraph 13 = .ok (.goto 4, 3) := dk_167 0 4 (dk_at dksX1_setParagraph_0 13 rfl rfl)
theorem dX1_setParagraph_16 : decode cX1_setParagraph 16 = .ok (.iconst 0, 1) := dk_3 (dk_at dksX1_setParagraph_0 16 rfl rfl)
theorem dX1_setParagraph_17 : decode cX1_setParagraph 17 = .ok (.invokestatic 67, 3) := dk_184 0 67 (dk_at dksX1_setParagraph_0 17 rfl rfl)
theorem dX1_setParagraph_20 : decode cX1_setParagraph 20 = .ok (.aload 4, 2) := dk_25 4 (dk_at dksX1_setParagraph_0 20 rfl rfl)
theorem dX1_setParagraph_22 : decode cX1_setParagraph 22 = .ok (.getfield 237, 3) := dk_180 0 237 (dk_at dksX1_setParagraph_1 0 rfl rfl)
theorem dX1_setParagraph_25 : decode cX1_setParagraph 25 = .ok (.iload_n 2, 1) := dk_28 (dk_at dksX1_setParagraph_1 3 rfl rfl)
theorem dX1_setParagraph_26 : decode cX1_setParagraph 26 = .ok (.iload_n 3, 1) := dk_29 (dk_at dksX1_setParagraph_1 4 rfl rfl)
theorem dX1_setParagraph_27 : decode cX1_setParagraph 27 = .ok (.invokestatic 255, 3) := dk_184 0 255 (dk_at dksX1_setParagraph_1 5 rfl rfl)
theorem dX1_setParagraph_30 : decode cX1_setParagraph 30 = .ok (.invokevirtual 259, 3) := dk_182 1 3 (dk_at dksX1_setParagraph_1 8 rfl rfl)
theorem dX1_setParagraph_33 : decode cX1_setParagraph 33 = .ok (.checkcast 240, 3) := dk_192 0 240 (dk_at dksX1_setParagraph_1 11 rfl rfl)
theorem dX1_setParagraph_36 : decode cX1_setParagraph 36 = .ok (.invokevirtual 242, 3) := dk_182 0 242 (dk_at dksX1_setParagraph_1 14 rfl rfl)
theorem dX1_setParagraph_39 : decode cX1_setParagraph 39 = .ok (.istore 5, 2) := dk_54 5 (dk_at dksX1_setParagraph_1 17 rfl rfl)
theorem dX1_setParagraph_41 : decode cX1_setParagraph 41 = .ok (.aload 4, 2) := dk_25 4 (dk_at dksX1_setParagraph_1 19 rfl rfl)
theorem dX1_setParagraph_43 : decode cX1_setParagraph 43 = .ok (.invokevirtual 205, 3) := dk_182 0 205 (dk_at dksX1_setParagraph_1 21 rfl rfl)
theorem dX1_setParagraph_46 : decode cX1_setParagraph 46 = .ok (.iload 5, 2) := dk_21 5 (dk_at dksX1_setParagraph_2 0 rfl rfl)
theorem dX1_setParagraph_48 : decode cX1_setParagraph 48 = .ok (.ireturn, 1) := dk_172 (dk_at dksX1_setParagraph_2 2 rfl rfl)
abbrev cX1_setTarget : ByteArray := prog_1_method_26_code
def yX1_setTarget : MethodName := ⟨RX1, "setTarget", "(I)I"⟩
def dkwX1_setTarget_1 : List UInt8 := [180, 0, 19, 180, 0, 165, 61, 42, 180, 0, 19, 27, 181, 0, 165, 42, 1, 181, 0, 44, 28, 172]
abbrev dktX1_setTarget_1 : List UInt8 := dkwX1_setTarget_1 ++ []
def dkwX1_setTarget_0 : List UInt8 := [27, 133, 9, 42, 180, 0, 19, 180, 0, 53, 182, 0, 57, 4, 100, 133, 184, 0, 63, 184, 0, 67, 42]
abbrev dktX1_setTarget_0 : List UInt8 := dkwX1_setTarget_0 ++ dktX1_setTarget_1
theorem dksX1_setTarget_0 : cX1_setTarget.data.toList.drop 0 = dktX1_setTarget_0 := by decide +kernel
theorem dksX1_setTarget_1 : cX1_setTarget.data.toList.drop 23 = dktX1_setTarget_1 := dk_seg dksX1_setTarget_0 23 rfl rfl
theorem dX1_setTarget_0 : decode cX1_setTarget 0 = .ok (.iload_n 1, 1) := dk_27 (dk_at dksX1_setTarget_0 0 rfl rfl)
theorem dX1_setTarget_1 : decode cX1_setTarget 1 = .ok (.i2l, 1) := dk_133 (dk_at dksX1_setTarget_0 1 rfl rfl)
theorem dX1_setTarget_2 : decode cX1_setTarget 2 = .ok (.lconst 0, 1) := dk_9 (dk_at dksX1_setTarget_0 2 rfl rfl)
theorem dX1_setTarget_3 : decode cX1_setTarget 3 = .ok (.aload_n 0, 1) := dk_42 (dk_at dksX1_setTarget_0 3 rfl rfl)
theorem dX1_setTarget_4 : decode cX1_setTarget 4 = .ok (.getfield 19, 3) := dk_180 0 19 (dk_at dksX1_setTarget_0 4 rfl rfl)
theorem dX1_setTarget_7 : decode cX1_setTarget 7 = .ok (.getfield 53, 3) := dk_180 0 53 (dk_at dksX1_setTarget_0 7 rfl rfl)
theorem dX1_setTarget_10 : decode cX1_setTarget 10 = .ok (.invokevirtual 57, 3) := dk_182 0 57 (dk_at dksX1_setTarget_0 10 rfl rfl)
theorem dX1_setTarget_13 : decode cX1_setTarget 13 = .ok (.iconst 1, 1) := dk_4 (dk_at dksX1_setTarget_0 13 rfl rfl)
theorem dX1_setTarget_14 : decode cX1_setTarget 14 = .ok (.isub, 1) := dk_100 (dk_at dksX1_setTarget_0 14 rfl rfl)
theorem dX1_setTarget_15 : decode cX1_setTarget 15 = .ok (.i2l, 1) := dk_133 (dk_at dksX1_setTarget_0 15 rfl rfl)
theorem dX1_setTarget_16 : decode cX1_setTarget 16 = .ok (.invokestatic 63, 3) := dk_184 0 63 (dk_at dksX1_setTarget_0 16 rfl rfl)
theorem dX1_setTarget_19 : decode cX1_setTarget 19 = .ok (.invokestatic 67, 3) := dk_184 0 67 (dk_at dksX1_setTarget_0 19 rfl rfl)
theorem dX1_setTarget_22 : decode cX1_setTarget 22 = .ok (.aload_n 0, 1) := dk_42 (dk_at dksX1_setTarget_0 22 rfl rfl)
theorem dX1_setTarget_23 : decode cX1_setTarget 23 = .ok (.getfield 19, 3) := dk_180 0 19 (dk_at dksX1_setTarget_1 0 rfl rfl)
theorem dX1_setTarget_26 : decode cX1_setTarget 26 = .ok (.getfield 165, 3) := dk_180 0 165 (dk_at dksX1_setTarget_1 3 rfl rfl)
theorem dX1_setTarget_29 : decode cX1_setTarget 29 = .ok (.istore_n 2, 1) := dk_61 (dk_at dksX1_setTarget_1 6 rfl rfl)
theorem dX1_setTarget_30 : decode cX1_setTarget 30 = .ok (.aload_n 0, 1) := dk_42 (dk_at dksX1_setTarget_1 7 rfl rfl)
theorem dX1_setTarget_31 : decode cX1_setTarget 31 = .ok (.getfield 19, 3) := dk_180 0 19 (dk_at dksX1_setTarget_1 8 rfl rfl)
theorem dX1_setTarget_34 : decode cX1_setTarget 34 = .ok (.iload_n 1, 1) := dk_27 (dk_at dksX1_setTarget_1 11 rfl rfl)
theorem dX1_setTarget_35 : decode cX1_setTarget 35 = .ok (.putfield 165, 3) := dk_181 0 165 (dk_at dksX1_setTarget_1 12 rfl rfl)
theorem dX1_setTarget_38 : decode cX1_setTarget 38 = .ok (.aload_n 0, 1) := dk_42 (dk_at dksX1_setTarget_1 15 rfl rfl)
theorem dX1_setTarget_39 : decode cX1_setTarget 39 = .ok (.aconst_null, 1) := dk_1 (dk_at dksX1_setTarget_1 16 rfl rfl)
theorem dX1_setTarget_40 : decode cX1_setTarget 40 = .ok (.putfield 44, 3) := dk_181 0 44 (dk_at dksX1_setTarget_1 17 rfl rfl)
theorem dX1_setTarget_43 : decode cX1_setTarget 43 = .ok (.iload_n 2, 1) := dk_28 (dk_at dksX1_setTarget_1 20 rfl rfl)
theorem dX1_setTarget_44 : decode cX1_setTarget 44 = .ok (.ireturn, 1) := dk_172 (dk_at dksX1_setTarget_1 21 rfl rfl)
abbrev cX1_addReader : ByteArray := prog_1_method_27_code
def yX1_addReader : MethodName := ⟨RX1, "addReader", "()I"⟩
def dkwX1_addReader_3 : List UInt8 := [182, 0, 57, 4, 100, 172]
abbrev dktX1_addReader_3 : List UInt8 := dkwX1_addReader_3 ++ []
def dkwX1_addReader_2 : List UInt8 := [184, 0, 93, 42, 180, 0, 19, 43, 182, 1, 29, 42, 182, 0, 192, 42, 180, 0, 19, 180, 0, 145]
abbrev dktX1_addReader_2 : List UInt8 := dkwX1_addReader_2 ++ dktX1_addReader_3
def dkwX1_addReader_1 : List UInt8 := [184, 0, 96, 42, 180, 0, 19, 180, 0, 145, 182, 0, 57, 16, 6, 162, 0, 7, 4, 167, 0, 4, 3]
abbrev dktX1_addReader_1 : List UInt8 := dkwX1_addReader_1 ++ dktX1_addReader_2
def dkwX1_addReader_0 : List UInt8 := [42, 182, 0, 249, 76, 42, 180, 0, 19, 180, 1, 20, 43, 182, 1, 24, 154, 0, 7, 4, 167, 0, 4, 3]
abbrev dktX1_addReader_0 : List UInt8 := dkwX1_addReader_0 ++ dktX1_addReader_1
theorem dksX1_addReader_0 : cX1_addReader.data.toList.drop 0 = dktX1_addReader_0 := by decide +kernel
theorem dksX1_addReader_1 : cX1_addReader.data.toList.drop 24 = dktX1_addReader_1 := dk_seg dksX1_addReader_0 24 rfl rfl
theorem dksX1_addReader_2 : cX1_addReader.data.toList.drop 47 = dktX1_addReader_2 := dk_seg dksX1_addReader_1 23 rfl rfl
theorem dksX1_addReader_3 : cX1_addReader.data.toList.drop 69 = dktX1_addReader_3 := dk_seg dksX1_addReader_2 22 rfl rfl
theorem dX1_addReader_0 : decode cX1_addReader 0 = .ok (.aload_n 0, 1) := dk_42 (dk_at dksX1_addReader_0 0 rfl rfl)
theorem dX1_addReader_1 : decode cX1_addReader 1 = .ok (.invokevirtual 249, 3) := dk_182 0 249 (dk_at dksX1_addReader_0 1 rfl rfl)
theorem dX1_addReader_4 : decode cX1_addReader 4 = .ok (.astore_n 1, 1) := dk_76 (dk_at dksX1_addReader_0 4 rfl rfl)
theorem dX1_addReader_5 : decode cX1_addReader 5 = .ok (.aload_n 0, 1) := dk_42 (dk_at dksX1_addReader_0 5 rfl rfl)
theorem dX1_addReader_6 : decode cX1_addReader 6 = .ok (.getfield 19, 3) := dk_180 0 19 (dk_at dksX1_addReader_0 6 rfl rfl)
theorem dX1_addReader_9 : decode cX1_addReader 9 = .ok (.getfield 276, 3) := dk_180 1 20 (dk_at dksX1_addReader_0 9 rfl rfl)
theorem dX1_addReader_12 : decode cX1_addReader 12 = .ok (.aload_n 1, 1) := dk_43 (dk_at dksX1_addReader_0 12 rfl rfl)
theorem dX1_addReader_13 : decode cX1_addReader 13 = .ok (.invokevirtual 280, 3) := dk_182 1 24 (dk_at dksX1_addReader_0 13 rfl rfl)
theorem dX1_addReader_16 : decode cX1_addReader 16 = .ok (.ifCond .ne 7, 3) := dk_154 0 7 (dk_at dksX1_addReader_0 16 rfl rfl)
theorem dX1_addReader_19 : decode cX1_addReader 19 = .ok (.iconst 1, 1) := dk_4 (dk_at dksX1_addReader_0 19 rfl rfl)
theorem dX1_addReader_20 : decode cX1_addReader 20 = .ok (.goto 4, 3) := dk_167 0 4 (dk_at dksX1_addReader_0 20 rfl rfl)
theorem dX1_addReader_23 : decode cX1_addReader 23 = .ok (.iconst 0, 1) := dk_3 (dk_at dksX1_addReader_0 23 rfl rfl)
theorem dX1_addReader_24 : decode cX1_addReader 24 = .ok (.invokestatic 96, 3) := dk_184 0 96 (dk_at dksX1_addReader_1 0 rfl rfl)
theorem dX1_addReader_27 : decode cX1_addReader 27 = .ok (.aload_n 0, 1) := dk_42 (dk_at dksX1_addReader_1 3 rfl rfl)
theorem dX1_addReader_28 : decode cX1_addReader 28 = .ok (.getfield 19, 3) := dk_180 0 19 (dk_at dksX1_addReader_1 4 rfl rfl)
theorem dX1_addReader_31 : decode cX1_addReader 31 = .ok (.getfield 145, 3) := dk_180 0 145 (dk_at dksX1_addReader_1 7 rfl rfl)
theorem dX1_addReader_34 : decode cX1_addReader 34 = .ok (.invokevirtual 57, 3) := dk_182 0 57 (dk_at dksX1_addReader_1 10 rfl rfl)
theorem dX1_addReader_37 : decode cX1_addReader 37 = .ok (.bipush 6, 2) := dk_16 6 (dk_at dksX1_addReader_1 13 rfl rfl)
theorem dX1_addReader_39 : decode cX1_addReader 39 = .ok (.if_icmp .ge 7, 3) := dk_162 0 7 (dk_at dksX1_addReader_1 15 rfl rfl)
theorem dX1_addReader_42 : decode cX1_addReader 42 = .ok (.iconst 1, 1) := dk_4 (dk_at dksX1_addReader_1 18 rfl rfl)
theorem dX1_addReader_43 : decode cX1_addReader 43 = .ok (.goto 4, 3) := dk_167 0 4 (dk_at dksX1_addReader_1 19 rfl rfl)
theorem dX1_addReader_46 : decode cX1_addReader 46 = .ok (.iconst 0, 1) := dk_3 (dk_at dksX1_addReader_1 22 rfl rfl)
theorem dX1_addReader_47 : decode cX1_addReader 47 = .ok (.invokestatic 93, 3) := dk_184 0 93 (dk_at dksX1_addReader_2 0 rfl rfl)
theorem dX1_addReader_50 : decode cX1_addReader 50 = .ok (.aload_n 0, 1) := dk_42 (dk_at dksX1_addReader_2 3 rfl rfl)
theorem dX1_addReader_51 : decode cX1_addReader 51 = .ok (.getfield 19, 3) := dk_180 0 19 (dk_at dksX1_addReader_2 4 rfl rfl)
theorem dX1_addReader_54 : decode cX1_addReader 54 = .ok (.aload_n 1, 1) := dk_43 (dk_at dksX1_addReader_2 7 rfl rfl)
theorem dX1_addReader_55 : decode cX1_addReader 55 = .ok (.invokevirtual 285, 3) := dk_182 1 29 (dk_at dksX1_addReader_2 8 rfl rfl)
theorem dX1_addReader_58 : decode cX1_addReader 58 = .ok (.aload_n 0, 1) := dk_42 (dk_at dksX1_addReader_2 11 rfl rfl)
theorem dX1_addReader_59 : decode cX1_addReader 59 = .ok (.invokevirtual 192, 3) := dk_182 0 192 (dk_at dksX1_addReader_2 12 rfl rfl)
theorem dX1_addReader_62 : decode cX1_addReader 62 = .ok (.aload_n 0, 1) := dk_42 (dk_at dksX1_addReader_2 15 rfl rfl)
theorem dX1_addReader_63 : decode cX1_addReader 63 = .ok (.getfield 19, 3) := dk_180 0 19 (dk_at dksX1_addReader_2 16 rfl rfl)
theorem dX1_addReader_66 : decode cX1_addReader 66 = .ok (.getfield 145, 3) := dk_180 0 145 (dk_at dksX1_addReader_2 19 rfl rfl)
theorem dX1_addReader_69 : decode cX1_addReader 69 = .ok (.invokevirtual 57, 3) := dk_182 0 57 (dk_at dksX1_addReader_3 0 rfl rfl)
theorem dX1_addReader_72 : decode cX1_addReader 72 = .ok (.iconst 1, 1) := dk_4 (dk_at dksX1_addReader_3 3 rfl rfl)
theorem dX1_addReader_73 : decode cX1_addReader 73 = .ok (.isub, 1) := dk_100 (dk_at dksX1_addReader_3 4 rfl rfl)
theorem dX1_addReader_74 : decode cX1_addReader 74 = .ok (.ireturn, 1) := dk_172 (dk_at dksX1_addReader_3 5 rfl rfl)
abbrev cX1_addNote : ByteArray := prog_1_method_28_code
def yX1_addNote : MethodName := ⟨RX1, "addNote", "(IIIII)I"⟩
def dkwX1_addNote_6 : List UInt8 := [182, 0, 192, 42, 180, 0, 19, 180, 0, 148, 182, 0, 57, 4, 100, 172]
abbrev dktX1_addNote_6 : List UInt8 := dkwX1_addNote_6 ++ []
def dkwX1_addNote_5 : List UInt8 := [180, 0, 148, 187, 1, 7, 89, 27, 28, 29, 21, 4, 21, 5, 25, 7, 183, 1, 35, 182, 0, 124, 87, 42]
abbrev dktX1_addNote_5 : List UInt8 := dkwX1_addNote_5 ++ dktX1_addNote_6
def dkwX1_addNote_4 : List UInt8 := [180, 0, 148, 182, 0, 57, 16, 40, 162, 0, 7, 4, 167, 0, 4, 3, 184, 0, 93, 42, 180, 0, 19]
abbrev dktX1_addNote_4 : List UInt8 := dkwX1_addNote_4 ++ dktX1_addNote_5
def dkwX1_addNote_3 : List UInt8 := [133, 9, 20, 1, 33, 184, 0, 63, 184, 0, 96, 42, 3, 16, 6, 182, 0, 138, 58, 7, 42, 180, 0, 19]
abbrev dktX1_addNote_3 : List UInt8 := dkwX1_addNote_3 ++ dktX1_addNote_4
def dkwX1_addNote_2 : List UInt8 := [21, 4, 133, 25, 6, 182, 0, 81, 133, 184, 0, 63, 153, 0, 7, 4, 167, 0, 4, 3, 184, 0, 67, 28]
abbrev dktX1_addNote_2 : List UInt8 := dkwX1_addNote_2 ++ dktX1_addNote_3
def dkwX1_addNote_1 : List UInt8 := [182, 0, 77, 58, 6, 21, 4, 133, 9, 25, 6, 182, 0, 81, 133, 184, 0, 63, 153, 0, 25, 21, 5, 133]
abbrev dktX1_addNote_1 : List UInt8 := dkwX1_addNote_1 ++ dktX1_addNote_2
def dkwX1_addNote_0 : List UInt8 := [27, 133, 9, 42, 180, 0, 19, 180, 0, 145, 182, 0, 57, 4, 100, 133, 184, 0, 63, 184, 0, 67, 42, 29]
abbrev dktX1_addNote_0 : List UInt8 := dkwX1_addNote_0 ++ dktX1_addNote_1
theorem dksX1_addNote_0 : cX1_addNote.data.toList.drop 0 = dktX1_addNote_0 := by decide +kernel
theorem dksX1_addNote_1 : cX1_addNote.data.toList.drop 24 = dktX1_addNote_1 := dk_seg dksX1_addNote_0 24 rfl rfl
theorem dksX1_addNote_2 : cX1_addNote.data.toList.drop 48 = dktX1_addNote_2 := dk_seg dksX1_addNote_1 24 rfl rfl
theorem dksX1_addNote_3 : cX1_addNote.data.toList.drop 72 = dktX1_addNote_3 := dk_seg dksX1_addNote_2 24 rfl rfl
theorem dksX1_addNote_4 : cX1_addNote.data.toList.drop 96 = dktX1_addNote_4 := dk_seg dksX1_addNote_3 24 rfl rfl
theorem dksX1_addNote_5 : cX1_addNote.data.toList.drop 119 = dktX1_addNote_5 := dk_seg dksX1_addNote_4 23 rfl rfl
theorem dksX1_addNote_6 : cX1_addNote.data.toList.drop 143 = dktX1_addNote_6 := dk_seg dksX1_addNote_5 24 rfl rfl
theorem dX1_addNote_0 : decode cX1_addNote 0 = .ok (.iload_n 1, 1) := dk_27 (dk_at dksX1_addNote_0 0 rfl rfl)
theorem dX1_addNote_1 : decode cX1_addNote 1 = .ok (.i2l, 1) := dk_133 (dk_at dksX1_addNote_0 1 rfl rfl)
theorem dX1_addNote_2 : decode cX1_addNote 2 = .ok (.lconst 0, 1) := dk_9 (dk_at dksX1_addNote_0 2 rfl rfl)
theorem dX1_addNote_3 : decode cX1_addNote 3 = .ok (.aload_n 0, 1) := dk_42 (dk_at dksX1_addNote_0 3 rfl rfl)
theorem dX1_addNote_4 : decode cX1_addNote 4 = .ok (.getfield 19, 3) := dk_180 0 19 (dk_at dksX1_addNote_0 4 rfl rfl)
theorem dX1_addNote_7 : decode cX1_addNote 7 = .ok (.getfield 145, 3) := dk_180 0 145 (dk_at dksX1_addNote_0 7 rfl rfl)
theorem dX1_addNote_10 : decode cX1_addNote 10 = .ok (.invokevirtual 57, 3) := dk_182 0 57 (dk_at dksX1_addNote_0 10 rfl rfl)
theorem dX1_addNote_13 : decode cX1_addNote 13 = .ok (.iconst 1, 1) := dk_4 (dk_at dksX1_addNote_0 13 rfl rfl)
theorem dX1_addNote_14 : decode cX1_addNote 14 = .ok (.isub, 1) := dk_100 (dk_at dksX1_addNote_0 14 rfl rfl)
theorem dX1_addNote_15 : decode cX1_addNote 15 = .ok (.i2l, 1) := dk_133 (dk_at dksX1_addNote_0 15 rfl rfl)
theorem dX1_addNote_16 : decode cX1_addNote 16 = .ok (.invokestatic 63, 3) := dk_184 0 63 (dk_at dksX1_addNote_0 16 rfl rfl)
theorem dX1_addNote_19 : decode cX1_addNote 19 = .ok (.invokestatic 67, 3) := dk_184 0 67 (dk_at dksX1_addNote_0 19 rfl rfl)
theorem dX1_addNote_22 : decode cX1_addNote 22 = .ok (.aload_n 0, 1) := dk_42 (dk_at dksX1_addNote_0 22 rfl rfl)
theorem dX1_addNote_23 : decode cX1_addNote 23 = .ok (.iload_n 3, 1) := dk_29 (dk_at dksX1_addNote_0 23 rfl rfl)
theorem dX1_addNote_24 : decode cX1_addNote 24 = .ok (.invokevirtual 77, 3) := dk_182 0 77 (dk_at dksX1_addNote_1 0 rfl rfl)
theorem dX1_addNote_27 : decode cX1_addNote 27 = .ok (.astore 6, 2) := dk_58 6 (dk_at dksX1_addNote_1 3 rfl rfl)
theorem dX1_addNote_29 : decode cX1_addNote 29 = .ok (.iload 4, 2) := dk_21 4 (dk_at dksX1_addNote_1 5 rfl rfl)
theorem dX1_addNote_31 : decode cX1_addNote 31 = .ok (.i2l, 1) := dk_133 (dk_at dksX1_addNote_1 7 rfl rfl)
theorem dX1_addNote_32 : decode cX1_addNote 32 = .ok (.lconst 0, 1) := dk_9 (dk_at dksX1_addNote_1 8 rfl rfl)
theorem dX1_addNote_33 : decode cX1_addNote 33 = .ok (.aload 6, 2) := dk_25 6 (dk_at dksX1_addNote_1 9 rfl rfl)
theorem dX1_addNote_35 : decode cX1_addNote 35 = .ok (.invokevirtual 81, 3) := dk_182 0 81 (dk_at dksX1_addNote_1 11 rfl rfl)
theorem dX1_addNote_38 : decode cX1_addNote 38 = .ok (.i2l, 1) := dk_133 (dk_at dksX1_addNote_1 14 rfl rfl)
theorem dX1_addNote_39 : decode cX1_addNote 39 = .ok (.invokestatic 63, 3) := dk_184 0 63 (dk_at dksX1_addNote_1 15 rfl rfl)
theorem dX1_addNote_42 : decode cX1_addNote 42 = .ok (.ifCond .eq 25, 3) := dk_153 0 25 (dk_at dksX1_addNote_1 18 rfl rfl)
theorem dX1_addNote_45 : decode cX1_addNote 45 = .ok (.iload 5, 2) := dk_21 5 (dk_at dksX1_addNote_1 21 rfl rfl)
theorem dX1_addNote_47 : decode cX1_addNote 47 = .ok (.i2l, 1) := dk_133 (dk_at dksX1_addNote_1 23 rfl rfl)
theorem dX1_addNote_48 : decode cX1_addNote 48 = .ok (.iload 4, 2) := dk_21 4 (dk_at dksX1_addNote_2 0 rfl rfl)
theorem dX1_addNote_50 : decode cX1_addNote 50 = .ok (.i2l, 1) := dk_133 (dk_at dksX1_addNote_2 2 rfl rfl)
theorem dX1_addNote_51 : decode cX1_addNote 51 = .ok (.aload 6, 2) := dk_25 6 (dk_at dksX1_addNote_2 3 rfl rfl)
theorem dX1_addNote_53 : decode cX1_addNote 53 = .ok (.invokevirtual 81, 3) := dk_182 0 81 (dk_at dksX1_addNote_2 5 rfl rfl)
theorem dX1_addNote_56 : decode cX1_addNote 56 = .ok (.i2l, 1) := dk_133 (dk_at dksX1_addNote_2 8 rfl rfl)
theorem dX1_addNote_57 : decode cX1_addNote 57 = .ok (.invokestatic 63, 3) := dk_184 0 63 (dk_at dksX1_addNote_2 9 rfl rfl)
theorem dX1_addNote_60 : decode cX1_addNote 60 = .ok (.ifCond .eq 7, 3) := dk_153 0 7 (dk_at dksX1_addNote_2 12 rfl rfl)
theorem dX1_addNote_63 : decode cX1_addNote 63 = .ok (.iconst 1, 1) := dk_4 (dk_at dksX1_addNote_2 15 rfl rfl)
theorem dX1_addNote_64 : decode cX1_addNote 64 = .ok (.goto 4, 3) := dk_167 0 4 (dk_at dksX1_addNote_2 16 rfl rfl)
theorem dX1_addNote_67 : decode cX1_addNote 67 = .ok (.iconst 0, 1) := dk_3 (dk_at dksX1_addNote_2 19 rfl rfl)
theorem dX1_addNote_68 : decode cX1_addNote 68 = .ok (.invokestatic 67, 3) := dk_184 0 67 (dk_at dksX1_addNote_2 20 rfl rfl)
theorem dX1_addNote_71 : decode cX1_addNote 71 = .ok (.iload_n 2, 1) := dk_28 (dk_at dksX1_addNote_2 23 rfl rfl)
theorem dX1_addNote_72 : decode cX1_addNote 72 = .ok (.i2l, 1) := dk_133 (dk_at dksX1_addNote_3 0 rfl rfl)
theorem dX1_addNote_73 : decode cX1_addNote 73 = .ok (.lconst 0, 1) := dk_9 (dk_at dksX1_addNote_3 1 rfl rfl)
theorem dX1_addNote_74 : decode cX1_addNote 74 = .ok (.ldc2_w 289, 3) := dk_20 1 33 (dk_at dksX1_addNote_3 2 rfl rfl)
theorem dX1_addNote_77 : decode cX1_addNote 77 = .ok (.invokestatic 63, 3) := dk_184 0 63 (dk_at dksX1_addNote_3 5 rfl rfl)
theorem dX1_addNote_80 : decode cX1_addNote 80 = .ok (.invokestatic 96, 3) := dk_184 0 96 (dk_at dksX1_addNote_3 8 rfl rfl)
theorem dX1_addNote_83 : decode cX1_addNote 83 = .ok (.aload_n 0, 1) := dk_42 (dk_at dksX1_addNote_3 11 rfl rfl)
theorem dX1_addNote_84 : decode cX1_addNote 84 = .ok (.iconst 0, 1) := dk_3 (dk_at dksX1_addNote_3 12 rfl rfl)
theorem dX1_addNote_85 : decode cX1_addNote 85 = .ok (.bipush 6, 2) := dk_16 6 (dk_at dksX1_addNote_3 13 rfl rfl)
theorem dX1_addNote_87 : decode cX1_addNote 87 = .ok (.invokevirtual 138, 3) := dk_182 0 138 (dk_at dksX1_addNote_3 15 rfl rfl)
theorem dX1_addNote_90 : decode cX1_addNote 90 = .ok (.astore 7, 2) := dk_58 7 (dk_at dksX1_addNote_3 18 rfl rfl)
theorem dX1_addNote_92 : decode cX1_addNote 92 = .ok (.aload_n 0, 1) := dk_42 (dk_at dksX1_addNote_3 20 rfl rfl)
theorem dX1_addNote_93 : decode cX1_addNote 93 = .ok (.getfield 19, 3) := dk_180 0 19 (dk_at dksX1_addNote_3 21 rfl rfl)
theorem dX1_addNote_96 : decode cX1_addNote 96 = .ok (.getfield 148, 3) := dk_180 0 148 (dk_at dksX1_addNote_4 0 rfl rfl)
theorem dX1_addNote_99 : decode cX1_addNote 99 = .ok (.invokevirtual 57, 3) := dk_182 0 57 (dk_at dksX1_addNote_4 3 rfl rfl)
theorem dX1_addNote_102 : decode cX1_addNote 102 = .ok (.bipush 40, 2) := dk_16 40 (dk_at dksX1_addNote_4 6 rfl rfl)
theorem dX1_addNote_104 : decode cX1_addNote 104 = .ok (.if_icmp .ge 7, 3) := dk_162 0 7 (dk_at dksX1_addNote_4 8 rfl rfl)
theorem dX1_addNote_107 : decode cX1_addNote 107 = .ok (.iconst 1, 1) := dk_4 (dk_at dksX1_addNote_4 11 rfl rfl)
theorem dX1_addNote_108 : decode cX1_addNote 108 = .ok (.goto 4, 3) := dk_167 0 4 (dk_at dksX1_addNote_4 12 rfl rfl)
theorem dX1_addNote_111 : decode cX1_addNote 111 = .ok (.iconst 0, 1) := dk_3 (dk_at dksX1_addNote_4 15 rfl rfl)
theorem dX1_addNote_112 : decode cX1_addNote 112 = .ok (.invokestatic 93, 3) := dk_184 0 93 (dk_at dksX1_addNote_4 16 rfl rfl)
theorem dX1_addNote_115 : decode cX1_addNote 115 = .ok (.aload_n 0, 1) := dk_42 (dk_at dksX1_addNote_4 19 rfl rfl)
theorem dX1_addNote_116 : decode cX1_addNote 116 = .ok (.getfield 19, 3) := dk_180 0 19 (dk_at dksX1_addNote_4 20 rfl rfl)
theorem dX1_addNote_119 : decode cX1_addNote 119 = .ok (.getfield 148, 3) := dk_180 0 148 (dk_at dksX1_addNote_5 0 rfl rfl)
theorem dX1_addNote_122 : decode cX1_addNote 122 = .ok (.new 263, 3) := dk_187 1 7 (dk_at dksX1_addNote_5 3 rfl rfl)
theorem dX1_addNote_125 : decode cX1_addNote 125 = .ok (.dup, 1) := dk_89 (dk_at dksX1_addNote_5 6 rfl rfl)
theorem dX1_addNote_126 : decode cX1_addNote 126 = .ok (.iload_n 1, 1) := dk_27 (dk_at dksX1_addNote_5 7 rfl rfl)
theorem dX1_addNote_127 : decode cX1_addNote 127 = .ok (.iload_n 2, 1) := dk_28 (dk_at dksX1_addNote_5 8 rfl rfl)
theorem dX1_addNote_128 : decode cX1_addNote 128 = .ok (.iload_n 3, 1) := dk_29 (dk_at dksX1_addNote_5 9 rfl rfl)
theorem dX1_addNote_129 : decode cX1_addNote 129 = .ok (.iload 4, 2) := dk_21 4 (dk_at dksX1_addNote_5 10 rfl rfl)
theorem dX1_addNote_131 : decode cX1_addNote 131 = .ok (.iload 5, 2) := dk_21 5 (dk_at dksX1_addNote_5 12 rfl rfl)
theorem dX1_addNote_133 : decode cX1_addNote 133 = .ok (.aload 7, 2) := dk_25 7 (dk_at dksX1_addNote_5 14 rfl rfl)
theorem dX1_addNote_135 : decode cX1_addNote 135 = .ok (.invokespecial 291, 3) := dk_183 1 35 (dk_at dksX1_addNote_5 16 rfl rfl)
theorem dX1_addNote_138 : decode cX1_addNote 138 = .ok (.invokevirtual 124, 3) := dk_182 0 124 (dk_at dksX1_addNote_5 19 rfl rfl)
theorem dX1_addNote_141 : decode cX1_addNote 141 = .ok (.pop, 1) := dk_87 (dk_at dksX1_addNote_5 22 rfl rfl)
theorem dX1_addNote_142 : decode cX1_addNote 142 = .ok (.aload_n 0, 1) := dk_42 (dk_at dksX1_addNote_5 23 rfl rfl)
theorem dX1_addNote_143 : decode cX1_addNote 143 = .ok (.invokevirtual 192, 3) := dk_182 0 192 (dk_at dksX1_addNote_6 0 rfl rfl)
theorem dX1_addNote_146 : decode cX1_addNote 146 = .ok (.aload_n 0, 1) := dk_42 (dk_at dksX1_addNote_6 3 rfl rfl)
theorem dX1_addNote_147 : decode cX1_addNote 147 = .ok (.getfield 19, 3) := dk_180 0 19 (dk_at dksX1_addNote_6 4 rfl rfl)
theorem dX1_addNote_150 : decode cX1_addNote 150 = .ok (.getfield 148, 3) := dk_180 0 148 (dk_at dksX1_addNote_6 7 rfl rfl)
theorem dX1_addNote_153 : decode cX1_addNote 153 = .ok (.invokevirtual 57, 3) := dk_182 0 57 (dk_at dksX1_addNote_6 10 rfl rfl)
theorem dX1_addNote_156 : decode cX1_addNote 156 = .ok (.iconst 1, 1) := dk_4 (dk_at dksX1_addNote_6 13 rfl rfl)
theorem dX1_addNote_157 : decode cX1_addNote 157 = .ok (.isub, 1) := dk_100 (dk_at dksX1_addNote_6 14 rfl rfl)
theorem dX1_addNote_158 : decode cX1_addNote 158 = .ok (.ireturn, 1) := dk_172 (dk_at dksX1_addNote_6 15 rfl rfl)
abbrev cX1_note : ByteArray := prog_1_method_30_code
def yX1_note : MethodName := ⟨RX1, "note", "(II)I"⟩
def dkwX1_note_3 : List UInt8 := [172, 45, 180, 1, 53, 182, 0, 57, 172]
abbrev dktX1_note_3 : List UInt8 := dkwX1_note_3 ++ []
def dkwX1_note_2 : List UInt8 := [45, 180, 1, 42, 172, 45, 180, 1, 45, 172, 45, 180, 1, 9, 172, 45, 180, 1, 48, 172, 45, 180, 1, 51]
abbrev dktX1_note_2 : List UInt8 := dkwX1_note_2 ++ dktX1_note_3
def dkwX1_note_1 : List UInt8 := [170, 0, 0, 0, 58, 0, 0, 0, 0, 0, 0, 0, 4, 0, 0, 0, 33, 0, 0, 0, 38, 0, 0, 0, 43, 0, 0, 0, 48, 0, 0, 0, 53]
abbrev dktX1_note_1 : List UInt8 := dkwX1_note_1 ++ dktX1_note_2
def dkwX1_note_0 : List UInt8 := [42, 27, 182, 1, 38, 78, 28, 133, 9, 20, 0, 143, 184, 0, 63, 184, 0, 96, 28]
abbrev dktX1_note_0 : List UInt8 := dkwX1_note_0 ++ dktX1_note_1
theorem dksX1_note_0 : cX1_note.data.toList.drop 0 = dktX1_note_0 := by decide +kernel
theorem dksX1_note_1 : cX1_note.data.toList.drop 19 = dktX1_note_1 := dk_seg dksX1_note_0 19 rfl rfl
theorem dksX1_note_2 : cX1_note.data.toList.drop 52 = dktX1_note_2 := dk_seg dksX1_note_1 33 rfl rfl
theorem dksX1_note_3 : cX1_note.data.toList.drop 76 = dktX1_note_3 := dk_seg dksX1_note_2 24 rfl rfl
theorem dX1_note_0 : decode cX1_note 0 = .ok (.aload_n 0, 1) := dk_42 (dk_at dksX1_note_0 0 rfl rfl)
theorem dX1_note_1 : decode cX1_note 1 = .ok (.iload_n 1, 1) := dk_27 (dk_at dksX1_note_0 1 rfl rfl)
theorem dX1_note_2 : decode cX1_note 2 = .ok (.invokevirtual 294, 3) := dk_182 1 38 (dk_at dksX1_note_0 2 rfl rfl)
theorem dX1_note_5 : decode cX1_note 5 = .ok (.astore_n 3, 1) := dk_78 (dk_at dksX1_note_0 5 rfl rfl)
theorem dX1_note_6 : decode cX1_note 6 = .ok (.iload_n 2, 1) := dk_28 (dk_at dksX1_note_0 6 rfl rfl)
theorem dX1_note_7 : decode cX1_note 7 = .ok (.i2l, 1) := dk_133 (dk_at dksX1_note_0 7 rfl rfl)
theorem dX1_note_8 : decode cX1_note 8 = .ok (.lconst 0, 1) := dk_9 (dk_at dksX1_note_0 8 rfl rfl)
theorem dX1_note_9 : decode cX1_note 9 = .ok (.ldc2_w 143, 3) := dk_20 0 143 (dk_at dksX1_note_0 9 rfl rfl)
theorem dX1_note_12 : decode cX1_note 12 = .ok (.invokestatic 63, 3) := dk_184 0 63 (dk_at dksX1_note_0 12 rfl rfl)
theorem dX1_note_15 : decode cX1_note 15 = .ok (.invokestatic 96, 3) := dk_184 0 96 (dk_at dksX1_note_0 15 rfl rfl)
theorem dX1_note_18 : decode cX1_note 18 = .ok (.iload_n 2, 1) := dk_28 (dk_at dksX1_note_0 18 rfl rfl)
theorem dX1_note_19 : decode cX1_note 19 = .ok (.tableswitch 58 0 4 #[33, 38, 43, 48, 53], 33) := by decide +kernel
theorem dX1_note_52 : decode cX1_note 52 = .ok (.aload_n 3, 1) := dk_45 (dk_at dksX1_note_2 0 rfl rfl)
theorem dX1_note_53 : decode cX1_note 53 = .ok (.getfield 298, 3) := dk_180 1 42 (dk_at dksX1_note_2 1 rfl rfl)
theorem dX1_note_56 : decode cX1_note 56 = .ok (.ireturn, 1) := dk_172 (dk_at dksX1_note_2 4 rfl rfl)
theorem dX1_note_57 : decode cX1_note 57 = .ok (.aload_n 3, 1) := dk_45 (dk_at dksX1_note_2 5 rfl rfl)
theorem dX1_note_58 : decode cX1_note 58 = .ok (.getfield 301, 3) := dk_180 1 45 (dk_at dksX1_note_2 6 rfl rfl)
theorem dX1_note_61 : decode cX1_note 61 = .ok (.ireturn, 1) := dk_172 (dk_at dksX1_note_2 9 rfl rfl)
theorem dX1_note_62 : decode cX1_note 62 = .ok (.aload_n 3, 1) := dk_45 (dk_at dksX1_note_2 10 rfl rfl)
theorem dX1_note_63 : decode cX1_note 63 = .ok (.getfield 265, 3) := dk_180 1 9 (dk_at dksX1_note_2 11 rfl rfl)
theorem dX1_note_66 : decode cX1_note 66 = .ok (.ireturn, 1) := dk_172 (dk_at dksX1_note_2 14 rfl rfl)
theorem dX1_note_67 : decode cX1_note 67 = .ok (.aload_n 3, 1) := dk_45 (dk_at dksX1_note_2 15 rfl rfl)
theorem dX1_note_68 : decode cX1_note 68 = .ok (.getfield 304, 3) := dk_180 1 48 (dk_at dksX1_note_2 16 rfl rfl)
theorem dX1_note_71 : decode cX1_note 71 = .ok (.ireturn, 1) := dk_172 (dk_at dksX1_note_2 19 rfl rfl)
theorem dX1_note_72 : decode cX1_note 72 = .ok (.aload_n 3, 1) := dk_45 (dk_at dksX1_note_2 20 rfl rfl)
theorem dX1_note_73 : decode cX1_note 73 = .ok (.getfield 307, 3) := dk_180 1 51 (dk_at dksX1_note_2 21 rfl rfl)
theorem dX1_note_76 : decode cX1_note 76 = .ok (.ireturn, 1) := dk_172 (dk_at dksX1_note_3 0 rfl rfl)
theorem dX1_note_77 : decode cX1_note 77 = .ok (.aload_n 3, 1) := dk_45 (dk_at dksX1_note_3 1 rfl rfl)
theorem dX1_note_78 : decode cX1_note 78 = .ok (.getfield 309, 3) := dk_180 1 53 (dk_at dksX1_note_3 2 rfl rfl)
theorem dX1_note_81 : decode cX1_note 81 = .ok (.invokevirtual 57, 3) := dk_182 0 57 (dk_at dksX1_note_3 5 rfl rfl)
theorem dX1_note_84 : decode cX1_note 84 = .ok (.ireturn, 1) := dk_172 (dk_at dksX1_note_3 8 rfl rfl)
abbrev cX1_noteAt : ByteArray := prog_1_method_29_code
def yX1_noteAt : MethodName := ⟨RX1, "noteAt", "(I)LNoteImporter$Note;"⟩
def dkwX1_noteAt_1 : List UInt8 := [180, 0, 19, 180, 0, 148, 27, 182, 0, 71, 192, 1, 7, 176]
abbrev dktX1_noteAt_1 : List UInt8 := dkwX1_noteAt_1 ++ []
def dkwX1_noteAt_0 : List UInt8 := [27, 133, 9, 42, 180, 0, 19, 180, 0, 148, 182, 0, 57, 4, 100, 133, 184, 0, 63, 184, 0, 67, 42]
abbrev dktX1_noteAt_0 : List UInt8 := dkwX1_noteAt_0 ++ dktX1_noteAt_1
theorem dksX1_noteAt_0 : cX1_noteAt.data.toList.drop 0 = dktX1_noteAt_0 := by decide +kernel
theorem dksX1_noteAt_1 : cX1_noteAt.data.toList.drop 23 = dktX1_noteAt_1 := dk_seg dksX1_noteAt_0 23 rfl rfl
theorem dX1_noteAt_0 : decode cX1_noteAt 0 = .ok (.iload_n 1, 1) := dk_27 (dk_at dksX1_noteAt_0 0 rfl rfl)
theorem dX1_noteAt_1 : decode cX1_noteAt 1 = .ok (.i2l, 1) := dk_133 (dk_at dksX1_noteAt_0 1 rfl rfl)
theorem dX1_noteAt_2 : decode cX1_noteAt 2 = .ok (.lconst 0, 1) := dk_9 (dk_at dksX1_noteAt_0 2 rfl rfl)
theorem dX1_noteAt_3 : decode cX1_noteAt 3 = .ok (.aload_n 0, 1) := dk_42 (dk_at dksX1_noteAt_0 3 rfl rfl)
theorem dX1_noteAt_4 : decode cX1_noteAt 4 = .ok (.getfield 19, 3) := dk_180 0 19 (dk_at dksX1_noteAt_0 4 rfl rfl)
theorem dX1_noteAt_7 : decode cX1_noteAt 7 = .ok (.getfield 148, 3) := dk_180 0 148 (dk_at dksX1_noteAt_0 7 rfl rfl)
theorem dX1_noteAt_10 : decode cX1_noteAt 10 = .ok (.invokevirtual 57, 3) := dk_182 0 57 (dk_at dksX1_noteAt_0 10 rfl rfl)
theorem dX1_noteAt_13 : decode cX1_noteAt 13 = .ok (.iconst 1, 1) := dk_4 (dk_at dksX1_noteAt_0 13 rfl rfl)
theorem dX1_noteAt_14 : decode cX1_noteAt 14 = .ok (.isub, 1) := dk_100 (dk_at dksX1_noteAt_0 14 rfl rfl)
theorem dX1_noteAt_15 : decode cX1_noteAt 15 = .ok (.i2l, 1) := dk_133 (dk_at dksX1_noteAt_0 15 rfl rfl)
theorem dX1_noteAt_16 : decode cX1_noteAt 16 = .ok (.invokestatic 63, 3) := dk_184 0 63 (dk_at dksX1_noteAt_0 16 rfl rfl)
theorem dX1_noteAt_19 : decode cX1_noteAt 19 = .ok (.invokestatic 67, 3) := dk_184 0 67 (dk_at dksX1_noteAt_0 19 rfl rfl)
theorem dX1_noteAt_22 : decode cX1_noteAt 22 = .ok (.aload_n 0, 1) := dk_42 (dk_at dksX1_noteAt_0 22 rfl rfl)
theorem dX1_noteAt_23 : decode cX1_noteAt 23 = .ok (.getfield 19, 3) := dk_180 0 19 (dk_at dksX1_noteAt_1 0 rfl rfl)
theorem dX1_noteAt_26 : decode cX1_noteAt 26 = .ok (.getfield 148, 3) := dk_180 0 148 (dk_at dksX1_noteAt_1 3 rfl rfl)
theorem dX1_noteAt_29 : decode cX1_noteAt 29 = .ok (.iload_n 1, 1) := dk_27 (dk_at dksX1_noteAt_1 6 rfl rfl)
theorem dX1_noteAt_30 : decode cX1_noteAt 30 = .ok (.invokevirtual 71, 3) := dk_182 0 71 (dk_at dksX1_noteAt_1 7 rfl rfl)
theorem dX1_noteAt_33 : decode cX1_noteAt 33 = .ok (.checkcast 263, 3) := dk_192 1 7 (dk_at dksX1_noteAt_1 10 rfl rfl)
theorem dX1_noteAt_36 : decode cX1_noteAt 36 = .ok (.areturn, 1) := dk_176 (dk_at dksX1_noteAt_1 13 rfl rfl)
abbrev cX1_removeNote : ByteArray := prog_1_method_31_code
def yX1_removeNote : MethodName := ⟨RX1, "removeNote", "()I"⟩
def dkwX1_removeNote_2 : List UInt8 := [76, 42, 1, 181, 0, 44, 42, 180, 0, 19, 180, 0, 148, 182, 0, 57, 172]
abbrev dktX1_removeNote_2 : List UInt8 := dkwX1_removeNote_2 ++ []
def dkwX1_removeNote_1 : List UInt8 := [180, 0, 19, 180, 0, 148, 42, 180, 0, 19, 180, 0, 148, 182, 0, 57, 4, 100, 182, 1, 14, 192, 1, 7]
abbrev dktX1_removeNote_1 : List UInt8 := dkwX1_removeNote_1 ++ dktX1_removeNote_2
def dkwX1_removeNote_0 : List UInt8 := [42, 180, 0, 19, 180, 0, 148, 182, 0, 151, 154, 0, 7, 4, 167, 0, 4, 3, 184, 0, 93, 42]
abbrev dktX1_removeNote_0 : List UInt8 := dkwX1_removeNote_0 ++ dktX1_removeNote_1
theorem dksX1_removeNote_0 : cX1_removeNote.data.toList.drop 0 = dktX1_removeNote_0 := by decide +kernel
theorem dksX1_removeNote_1 : cX1_removeNote.data.toList.drop 22 = dktX1_removeNote_1 := dk_seg dksX1_removeNote_0 22 rfl rfl
theorem dksX1_removeNote_2 : cX1_removeNote.data.toList.drop 46 = dktX1_removeNote_2 := dk_seg dksX1_removeNote_1 24 rfl rfl
theorem dX1_removeNote_0 : decode cX1_removeNote 0 = .ok (.aload_n 0, 1) := dk_42 (dk_at dksX1_removeNote_0 0 rfl rfl)
theorem dX1_removeNote_1 : decode cX1_removeNote 1 = .ok (.getfield 19, 3) := dk_180 0 19 (dk_at dksX1_removeNote_0 1 rfl rfl)
theorem dX1_removeNote_4 : decode cX1_removeNote 4 = .ok (.getfield 148, 3) := dk_180 0 148 (dk_at dksX1_removeNote_0 4 rfl rfl)
theorem dX1_removeNote_7 : decode cX1_removeNote 7 = .ok (.invokevirtual 151, 3) := dk_182 0 151 (dk_at dksX1_removeNote_0 7 rfl rfl)
theorem dX1_removeNote_10 : decode cX1_removeNote 10 = .ok (.ifCond .ne 7, 3) := dk_154 0 7 (dk_at dksX1_removeNote_0 10 rfl rfl)
theorem dX1_removeNote_13 : decode cX1_removeNote 13 = .ok (.iconst 1, 1) := dk_4 (dk_at dksX1_removeNote_0 13 rfl rfl)
theorem dX1_removeNote_14 : decode cX1_removeNote 14 = .ok (.goto 4, 3) := dk_167 0 4 (dk_at dksX1_removeNote_0 14 rfl rfl)
theorem dX1_removeNote_17 : decode cX1_removeNote 17 = .ok (.iconst 0, 1) := dk_3 (dk_at dksX1_removeNote_0 17 rfl rfl)
theorem dX1_removeNote_18 : decode cX1_removeNote 18 = .ok (.invokestatic 93, 3) := dk_184 0 93 (dk_at dksX1_removeNote_0 18 rfl rfl)
theorem dX1_removeNote_21 : decode cX1_removeNote 21 = .ok (.aload_n 0, 1) := dk_42 (dk_at dksX1_removeNote_0 21 rfl rfl)
theorem dX1_removeNote_22 : decode cX1_removeNote 22 = .ok (.getfield 19, 3) := dk_180 0 19 (dk_at dksX1_removeNote_1 0 rfl rfl)
theorem dX1_removeNote_25 : decode cX1_removeNote 25 = .ok (.getfield 148, 3) := dk_180 0 148 (dk_at dksX1_removeNote_1 3 rfl rfl)
theorem dX1_removeNote_28 : decode cX1_removeNote 28 = .ok (.aload_n 0, 1) := dk_42 (dk_at dksX1_removeNote_1 6 rfl rfl)
theorem dX1_removeNote_29 : decode cX1_removeNote 29 = .ok (.getfield 19, 3) := dk_180 0 19 (dk_at dksX1_removeNote_1 7 rfl rfl)
theorem dX1_removeNote_32 : decode cX1_removeNote 32 = .ok (.getfield 148, 3) := dk_180 0 148 (dk_at dksX1_removeNote_1 10 rfl rfl)
theorem dX1_removeNote_35 : decode cX1_removeNote 35 = .ok (.invokevirtual 57, 3) := dk_182 0 57 (dk_at dksX1_removeNote_1 13 rfl rfl)
theorem dX1_removeNote_38 : decode cX1_removeNote 38 = .ok (.iconst 1, 1) := dk_4 (dk_at dksX1_removeNote_1 16 rfl rfl)
theorem dX1_removeNote_39 : decode cX1_removeNote 39 = .ok (.isub, 1) := dk_100 (dk_at dksX1_removeNote_1 17 rfl rfl)
theorem dX1_removeNote_40 : decode cX1_removeNote 40 = .ok (.invokevirtual 270, 3) := dk_182 1 14 (dk_at dksX1_removeNote_1 18 rfl rfl)
theorem dX1_removeNote_43 : decode cX1_removeNote 43 = .ok (.checkcast 263, 3) := dk_192 1 7 (dk_at dksX1_removeNote_1 21 rfl rfl)
theorem dX1_removeNote_46 : decode cX1_removeNote 46 = .ok (.astore_n 1, 1) := dk_76 (dk_at dksX1_removeNote_2 0 rfl rfl)
theorem dX1_removeNote_47 : decode cX1_removeNote 47 = .ok (.aload_n 0, 1) := dk_42 (dk_at dksX1_removeNote_2 1 rfl rfl)
theorem dX1_removeNote_48 : decode cX1_removeNote 48 = .ok (.aconst_null, 1) := dk_1 (dk_at dksX1_removeNote_2 2 rfl rfl)
theorem dX1_removeNote_49 : decode cX1_removeNote 49 = .ok (.putfield 44, 3) := dk_181 0 44 (dk_at dksX1_removeNote_2 3 rfl rfl)
theorem dX1_removeNote_52 : decode cX1_removeNote 52 = .ok (.aload_n 0, 1) := dk_42 (dk_at dksX1_removeNote_2 6 rfl rfl)
theorem dX1_removeNote_53 : decode cX1_removeNote 53 = .ok (.getfield 19, 3) := dk_180 0 19 (dk_at dksX1_removeNote_2 7 rfl rfl)
theorem dX1_removeNote_56 : decode cX1_removeNote 56 = .ok (.getfield 148, 3) := dk_180 0 148 (dk_at dksX1_removeNote_2 10 rfl rfl)
theorem dX1_removeNote_59 : decode cX1_removeNote 59 = .ok (.invokevirtual 57, 3) := dk_182 0 57 (dk_at dksX1_removeNote_2 13 rfl rfl)
theorem dX1_removeNote_62 : decode cX1_removeNote 62 = .ok (.ireturn, 1) := dk_172 (dk_at dksX1_removeNote_2 16 rfl rfl)
abbrev cX1_partner : ByteArray := prog_1_method_32_code
def yX1_partner : MethodName := ⟨RX1, "partner", "(II)I"⟩
def dkwX1_partner_1 : List UInt8 := [182, 0, 155, 180, 1, 56, 27, 50, 180, 1, 60, 28, 46, 172]
abbrev dktX1_partner_1 : List UInt8 := dkwX1_partner_1 ++ []
def dkwX1_partner_0 : List UInt8 := [42, 27, 28, 182, 0, 216, 78, 27, 42, 180, 0, 19, 180, 0, 165, 160, 0, 7, 28, 167, 0, 17, 42]
abbrev dktX1_partner_0 : List UInt8 := dkwX1_partner_0 ++ dktX1_partner_1
theorem dksX1_partner_0 : cX1_partner.data.toList.drop 0 = dktX1_partner_0 := by decide +kernel
theorem dksX1_partner_1 : cX1_partner.data.toList.drop 23 = dktX1_partner_1 := dk_seg dksX1_partner_0 23 rfl rfl
theorem dX1_partner_0 : decode cX1_partner 0 = .ok (.aload_n 0, 1) := dk_42 (dk_at dksX1_partner_0 0 rfl rfl)
theorem dX1_partner_1 : decode cX1_partner 1 = .ok (.iload_n 1, 1) := dk_27 (dk_at dksX1_partner_0 1 rfl rfl)
theorem dX1_partner_2 : decode cX1_partner 2 = .ok (.iload_n 2, 1) := dk_28 (dk_at dksX1_partner_0 2 rfl rfl)
theorem dX1_partner_3 : decode cX1_partner 3 = .ok (.invokevirtual 216, 3) := dk_182 0 216 (dk_at dksX1_partner_0 3 rfl rfl)
theorem dX1_partner_6 : decode cX1_partner 6 = .ok (.astore_n 3, 1) := dk_78 (dk_at dksX1_partner_0 6 rfl rfl)
theorem dX1_partner_7 : decode cX1_partner 7 = .ok (.iload_n 1, 1) := dk_27 (dk_at dksX1_partner_0 7 rfl rfl)
theorem dX1_partner_8 : decode cX1_partner 8 = .ok (.aload_n 0, 1) := dk_42 (dk_at dksX1_partner_0 8 rfl rfl)
theorem dX1_partner_9 : decode cX1_partner 9 = .ok (.getfield 19, 3) := dk_180 0 19 (dk_at dksX1_partner_0 9 rfl rfl)
theorem dX1_partner_12 : decode cX1_partner 12 = .ok (.getfield 165, 3) := dk_180 0 165 (dk_at dksX1_partner_0 12 rfl rfl)
theorem dX1_partner_15 : decode cX1_partner 15 = .ok (.if_icmp .ne 7, 3) := dk_160 0 7 (dk_at dksX1_partner_0 15 rfl rfl)
theorem dX1_partner_18 : decode cX1_partner 18 = .ok (.iload_n 2, 1) := dk_28 (dk_at dksX1_partner_0 18 rfl rfl)
theorem dX1_partner_19 : decode cX1_partner 19 = .ok (.goto 17, 3) := dk_167 0 17 (dk_at dksX1_partner_0 19 rfl rfl)
theorem dX1_partner_22 : decode cX1_partner 22 = .ok (.aload_n 0, 1) := dk_42 (dk_at dksX1_partner_0 22 rfl rfl)
theorem dX1_partner_23 : decode cX1_partner 23 = .ok (.invokevirtual 155, 3) := dk_182 0 155 (dk_at dksX1_partner_1 0 rfl rfl)
theorem dX1_partner_26 : decode cX1_partner 26 = .ok (.getfield 312, 3) := dk_180 1 56 (dk_at dksX1_partner_1 3 rfl rfl)
theorem dX1_partner_29 : decode cX1_partner 29 = .ok (.iload_n 1, 1) := dk_27 (dk_at dksX1_partner_1 6 rfl rfl)
theorem dX1_partner_30 : decode cX1_partner 30 = .ok (.aaload, 1) := dk_50 (dk_at dksX1_partner_1 7 rfl rfl)
theorem dX1_partner_31 : decode cX1_partner 31 = .ok (.getfield 316, 3) := dk_180 1 60 (dk_at dksX1_partner_1 8 rfl rfl)
theorem dX1_partner_34 : decode cX1_partner 34 = .ok (.iload_n 2, 1) := dk_28 (dk_at dksX1_partner_1 11 rfl rfl)
theorem dX1_partner_35 : decode cX1_partner 35 = .ok (.iaload, 1) := dk_46 (dk_at dksX1_partner_1 12 rfl rfl)
theorem dX1_partner_36 : decode cX1_partner 36 = .ok (.ireturn, 1) := dk_172 (dk_at dksX1_partner_1 13 rfl rfl)
abbrev cX1_partners : ByteArray := prog_1_method_33_code
def yX1_partners : MethodName := ⟨RX1, "partners", "(I)I"⟩
def dkwX1_partners_0 : List UInt8 := [42, 27, 182, 0, 77, 77, 42, 182, 0, 155, 180, 1, 56, 27, 50, 182, 1, 65, 172]
abbrev dktX1_partners_0 : List UInt8 := dkwX1_partners_0 ++ []
theorem dksX1_partners_0 : cX1_partners.data.toList.drop 0 = dktX1_partners_0 := by decide +kernel
theorem dX1_partners_0 : decode cX1_partners 0 = .ok (.aload_n 0, 1) := dk_42 (dk_at dksX1_partners_0 0 rfl rfl)
theorem dX1_partners_1 : decode cX1_partners 1 = .ok (.iload_n 1, 1) := dk_27 (dk_at dksX1_partners_0 1 rfl rfl)
theorem dX1_partners_2 : decode cX1_partners 2 = .ok (.invokevirtual 77, 3) := dk_182 0 77 (dk_at dksX1_partners_0 2 rfl rfl)
theorem dX1_partners_5 : decode cX1_partners 5 = .ok (.astore_n 2, 1) := dk_77 (dk_at dksX1_partners_0 5 rfl rfl)
theorem dX1_partners_6 : decode cX1_partners 6 = .ok (.aload_n 0, 1) := dk_42 (dk_at dksX1_partners_0 6 rfl rfl)
theorem dX1_partners_7 : decode cX1_partners 7 = .ok (.invokevirtual 155, 3) := dk_182 0 155 (dk_at dksX1_partners_0 7 rfl rfl)
theorem dX1_partners_10 : decode cX1_partners 10 = .ok (.getfield 312, 3) := dk_180 1 56 (dk_at dksX1_partners_0 10 rfl rfl)
theorem dX1_partners_13 : decode cX1_partners 13 = .ok (.iload_n 1, 1) := dk_27 (dk_at dksX1_partners_0 13 rfl rfl)
theorem dX1_partners_14 : decode cX1_partners 14 = .ok (.aaload, 1) := dk_50 (dk_at dksX1_partners_0 14 rfl rfl)
theorem dX1_partners_15 : decode cX1_partners 15 = .ok (.invokevirtual 321, 3) := dk_182 1 65 (dk_at dksX1_partners_0 15 rfl rfl)
theorem dX1_partners_18 : decode cX1_partners 18 = .ok (.ireturn, 1) := dk_172 (dk_at dksX1_partners_0 18 rfl rfl)
abbrev cX1_anchor : ByteArray := prog_1_method_34_code
def yX1_anchor : MethodName := ⟨RX1, "anchor", "(II)I"⟩
def dkwX1_anchor_3 : List UInt8 := [25, 4, 180, 1, 72, 172, 25, 4, 180, 1, 77, 172, 25, 4, 180, 1, 78, 172, 25, 4, 180, 1, 79, 172]
abbrev dktX1_anchor_3 : List UInt8 := dkwX1_anchor_3 ++ []
def dkwX1_anchor_2 : List UInt8 := [170, 0, 0, 0, 0, 44, 0, 0, 0, 0, 0, 0, 0, 2, 0, 0, 0, 26, 0, 0, 0, 32, 0, 0, 0, 38]
abbrev dktX1_anchor_2 : List UInt8 := dkwX1_anchor_2 ++ dktX1_anchor_3
def dkwX1_anchor_1 : List UInt8 := [180, 1, 68, 27, 50, 58, 4, 28]
abbrev dktX1_anchor_1 : List UInt8 := dkwX1_anchor_1 ++ dktX1_anchor_2
def dkwX1_anchor_0 : List UInt8 := [42, 27, 182, 1, 38, 78, 28, 133, 9, 20, 1, 33, 184, 0, 63, 184, 0, 96, 42, 182, 0, 155]
abbrev dktX1_anchor_0 : List UInt8 := dkwX1_anchor_0 ++ dktX1_anchor_1
theorem dksX1_anchor_0 : cX1_anchor.data.toList.drop 0 = dktX1_anchor_0 := by decide +kernel
theorem dksX1_anchor_1 : cX1_anchor.data.toList.drop 22 = dktX1_anchor_1 := dk_seg dksX1_anchor_0 22 rfl rfl
theorem dksX1_anchor_2 : cX1_anchor.data.toList.drop 30 = dktX1_anchor_2 := dk_seg dksX1_anchor_1 8 rfl rfl
theorem dksX1_anchor_3 : cX1_anchor.data.toList.drop 56 = dktX1_anchor_3 := dk_seg dksX1_anchor_2 26 rfl rfl
theorem dX1_anchor_0 : decode cX1_anchor 0 = .ok (.aload_n 0, 1) := dk_42 (dk_at dksX1_anchor_0 0 rfl rfl)
theorem dX1_anchor_1 : decode cX1_anchor 1 = .ok (.iload_n 1, 1) := dk_27 (dk_at dksX1_anchor_0 1 rfl rfl)
theorem dX1_anchor_2 : decode cX1_anchor 2 = .ok (.invokevirtual 294, 3) := dk_182 1 38 (dk_at dksX1_anchor_0 2 rfl rfl)
theorem dX1_anchor_5 : decode cX1_anchor 5 = .ok (.astore_n 3, 1) := dk_78 (dk_at dksX1_anchor_0 5 rfl rfl)
theorem dX1_anchor_6 : decode cX1_anchor 6 = .ok (.iload_n 2, 1) := dk_28 (dk_at dksX1_anchor_0 6 rfl rfl)
theorem dX1_anchor_7 : decode cX1_anchor 7 = .ok (.i2l, 1) := dk_133 (dk_at dksX1_anchor_0 7 rfl rfl)
theorem dX1_anchor_8 : decode cX1_anchor 8 = .ok (.lconst 0, 1) := dk_9 (dk_at dksX1_anchor_0 8 rfl rfl)
theorem dX1_anchor_9 : decode cX1_anchor 9 = .ok (.ldc2_w 289, 3) := dk_20 1 33 (dk_at dksX1_anchor_0 9 rfl rfl)
theorem dX1_anchor_12 : decode cX1_anchor 12 = .ok (.invokestatic 63, 3) := dk_184 0 63 (dk_at dksX1_anchor_0 12 rfl rfl)
theorem dX1_anchor_15 : decode cX1_anchor 15 = .ok (.invokestatic 96, 3) := dk_184 0 96 (dk_at dksX1_anchor_0 15 rfl rfl)
theorem dX1_anchor_18 : decode cX1_anchor 18 = .ok (.aload_n 0, 1) := dk_42 (dk_at dksX1_anchor_0 18 rfl rfl)
theorem dX1_anchor_19 : decode cX1_anchor 19 = .ok (.invokevirtual 155, 3) := dk_182 0 155 (dk_at dksX1_anchor_0 19 rfl rfl)
theorem dX1_anchor_22 : decode cX1_anchor 22 = .ok (.getfield 324, 3) := dk_180 1 68 (dk_at dksX1_anchor_1 0 rfl rfl)
theorem dX1_anchor_25 : decode cX1_anchor 25 = .ok (.iload_n 1, 1) := dk_27 (dk_at dksX1_anchor_1 3 rfl rfl)
theorem dX1_anchor_26 : decode cX1_anchor 26 = .ok (.aaload, 1) := dk_50 (dk_at dksX1_anchor_1 4 rfl rfl)
theorem dX1_anchor_27 : decode cX1_anchor 27 = .ok (.astore 4, 2) := dk_58 4 (dk_at dksX1_anchor_1 5 rfl rfl)
theorem dX1_anchor_29 : decode cX1_anchor 29 = .ok (.iload_n 2, 1) := dk_28 (dk_at dksX1_anchor_1 7 rfl rfl)
theorem dX1_anchor_30 : decode cX1_anchor 30 = .ok (.tableswitch 44 0 2 #[26, 32, 38], 26) := by decide +kernel
theorem dX1_anchor_56 : decode cX1_anchor 56 = .ok (.aload 4, 2) := dk_25 4 (dk_at dksX1_anchor_3 0 rfl rfl)
theorem dX1_anchor_58 : decode cX1_anchor 58 = .ok (.getfield 328, 3) := dk_180 1 72 (dk_at dksX1_anchor_3 2 rfl rfl)
theorem dX1_anchor_61 : decode cX1_anchor 61 = .ok (.ireturn, 1) := dk_172 (dk_at dksX1_anchor_3 5 rfl rfl)
theorem dX1_anchor_62 : decode cX1_anchor 62 = .ok (.aload 4, 2) := dk_25 4 (dk_at dksX1_anchor_3 6 rfl rfl)
theorem dX1_anchor_64 : decode cX1_anchor 64 = .ok (.getfield 333, 3) := dk_180 1 77 (dk_at dksX1_anchor_3 8 rfl rfl)
theorem dX1_anchor_67 : decode cX1_anchor 67 = .ok (.ireturn, 1) := dk_172 (dk_at dksX1_anchor_3 11 rfl rfl)
theorem dX1_anchor_68 : decode cX1_anchor 68 = .ok (.aload 4, 2) := dk_25 4 (dk_at dksX1_anchor_3 12 rfl rfl)
theorem dX1_anchor_70 : decode cX1_anchor 70 = .ok (.getfield 334, 3) := dk_180 1 78 (dk_at dksX1_anchor_3 14 rfl rfl)
theorem dX1_anchor_73 : decode cX1_anchor 73 = .ok (.ireturn, 1) := dk_172 (dk_at dksX1_anchor_3 17 rfl rfl)
theorem dX1_anchor_74 : decode cX1_anchor 74 = .ok (.aload 4, 2) := dk_25 4 (dk_at dksX1_anchor_3 18 rfl rfl)
theorem dX1_anchor_76 : decode cX1_anchor 76 = .ok (.getfield 335, 3) := dk_180 1 79 (dk_at dksX1_anchor_3 20 rfl rfl)
theorem dX1_anchor_79 : decode cX1_anchor 79 = .ok (.ireturn, 1) := dk_172 (dk_at dksX1_anchor_3 23 rfl rfl)
abbrev cX1_anchors : ByteArray := prog_1_method_35_code
def yX1_anchors : MethodName := ⟨RX1, "anchors", "(I)I"⟩
def dkwX1_anchors_2 : List UInt8 := [167, 0, 4, 3, 96, 61, 132, 3, 1, 167, 255, 215, 28, 172]
abbrev dktX1_anchors_2 : List UInt8 := dkwX1_anchors_2 ++ []
def dkwX1_anchors_1 : List UInt8 := [182, 0, 57, 162, 0, 33, 28, 42, 182, 0, 155, 180, 1, 68, 29, 50, 180, 1, 72, 27, 160, 0, 7, 4]
abbrev dktX1_anchors_1 : List UInt8 := dkwX1_anchors_1 ++ dktX1_anchors_2
def dkwX1_anchors_0 : List UInt8 := [27, 133, 9, 20, 1, 33, 184, 0, 63, 184, 0, 96, 3, 61, 3, 62, 29, 42, 180, 0, 19, 180, 0, 148]
abbrev dktX1_anchors_0 : List UInt8 := dkwX1_anchors_0 ++ dktX1_anchors_1
theorem dksX1_anchors_0 : cX1_anchors.data.toList.drop 0 = dktX1_anchors_0 := by decide +kernel
theorem dksX1_anchors_1 : cX1_anchors.data.toList.drop 24 = dktX1_anchors_1 := dk_seg dksX1_anchors_0 24 rfl rfl
theorem dksX1_anchors_2 : cX1_anchors.data.toList.drop 48 = dktX1_anchors_2 := dk_seg dksX1_anchors_1 24 rfl rfl
theorem dX1_anchors_0 : decode cX1_anchors 0 = .ok (.iload_n 1, 1) := dk_27 (dk_at dksX1_anchors_0 0 rfl rfl)
theorem dX1_anchors_1 : decode cX1_anchors 1 = .ok (.i2l, 1) := dk_133 (dk_at dksX1_anchors_0 1 rfl rfl)
theorem dX1_anchors_2 : decode cX1_anchors 2 = .ok (.lconst 0, 1) := dk_9 (dk_at dksX1_anchors_0 2 rfl rfl)
theorem dX1_anchors_3 : decode cX1_anchors 3 = .ok (.ldc2_w 289, 3) := dk_20 1 33 (dk_at dksX1_anchors_0 3 rfl rfl)
theorem dX1_anchors_6 : decode cX1_anchors 6 = .ok (.invokestatic 63, 3) := dk_184 0 63 (dk_at dksX1_anchors_0 6 rfl rfl)
theorem dX1_anchors_9 : decode cX1_anchors 9 = .ok (.invokestatic 96, 3) := dk_184 0 96 (dk_at dksX1_anchors_0 9 rfl rfl)
theorem dX1_anchors_12 : decode cX1_anchors 12 = .ok (.iconst 0, 1) := dk_3 (dk_at dksX1_anchors_0 12 rfl rfl)
theorem dX1_anchors_13 : decode cX1_anchors 13 = .ok (.istore_n 2, 1) := dk_61 (dk_at dksX1_anchors_0 13 rfl rfl)
theorem dX1_anchors_14 : decode cX1_anchors 14 = .ok (.iconst 0, 1) := dk_3 (dk_at dksX1_anchors_0 14 rfl rfl)
theorem dX1_anchors_15 : decode cX1_anchors 15 = .ok (.istore_n 3, 1) := dk_62 (dk_at dksX1_anchors_0 15 rfl rfl)
theorem dX1_anchors_16 : decode cX1_anchors 16 = .ok (.iload_n 3, 1) := dk_29 (dk_at dksX1_anchors_0 16 rfl rfl)
theorem dX1_anchors_17 : decode cX1_anchors 17 = .ok (.aload_n 0, 1) := dk_42 (dk_at dksX1_anchors_0 17 rfl rfl)
theorem dX1_anchors_18 : decode cX1_anchors 18 = .ok (.getfield 19, 3) := dk_180 0 19 (dk_at dksX1_anchors_0 18 rfl rfl)
theorem dX1_anchors_21 : decode cX1_anchors 21 = .ok (.getfield 148, 3) := dk_180 0 148 (dk_at dksX1_anchors_0 21 rfl rfl)
theorem dX1_anchors_24 : decode cX1_anchors 24 = .ok (.invokevirtual 57, 3) := dk_182 0 57 (dk_at dksX1_anchors_1 0 rfl rfl)
theorem dX1_anchors_27 : decode cX1_anchors 27 = .ok (.if_icmp .ge 33, 3) := dk_162 0 33 (dk_at dksX1_anchors_1 3 rfl rfl)
theorem dX1_anchors_30 : decode cX1_anchors 30 = .ok (.iload_n 2, 1) := dk_28 (dk_at dksX1_anchors_1 6 rfl rfl)
theorem dX1_anchors_31 : decode cX1_anchors 31 = .ok (.aload_n 0, 1) := dk_42 (dk_at dksX1_anchors_1 7 rfl rfl)
theorem dX1_anchors_32 : decode cX1_anchors 32 = .ok (.invokevirtual 155, 3) := dk_182 0 155 (dk_at dksX1_anchors_1 8 rfl rfl)
theorem dX1_anchors_35 : decode cX1_anchors 35 = .ok (.getfield 324, 3) := dk_180 1 68 (dk_at dksX1_anchors_1 11 rfl rfl)
theorem dX1_anchors_38 : decode cX1_anchors 38 = .ok (.iload_n 3, 1) := dk_29 (dk_at dksX1_anchors_1 14 rfl rfl)
theorem dX1_anchors_39 : decode cX1_anchors 39 = .ok (.aaload, 1) := dk_50 (dk_at dksX1_anchors_1 15 rfl rfl)
theorem dX1_anchors_40 : decode cX1_anchors 40 = .ok (.getfield 328, 3) := dk_180 1 72 (dk_at dksX1_anchors_1 16 rfl rfl)
theorem dX1_anchors_43 : decode cX1_anchors 43 = .ok (.iload_n 1, 1) := dk_27 (dk_at dksX1_anchors_1 19 rfl rfl)
theorem dX1_anchors_44 : decode cX1_anchors 44 = .ok (.if_icmp .ne 7, 3) := dk_160 0 7 (dk_at dksX1_anchors_1 20 rfl rfl)
theorem dX1_anchors_47 : decode cX1_anchors 47 = .ok (.iconst 1, 1) := dk_4 (dk_at dksX1_anchors_1 23 rfl rfl)
theorem dX1_anchors_48 : decode cX1_anchors 48 = .ok (.goto 4, 3) := dk_167 0 4 (dk_at dksX1_anchors_2 0 rfl rfl)
theorem dX1_anchors_51 : decode cX1_anchors 51 = .ok (.iconst 0, 1) := dk_3 (dk_at dksX1_anchors_2 3 rfl rfl)
theorem dX1_anchors_52 : decode cX1_anchors 52 = .ok (.iadd, 1) := dk_96 (dk_at dksX1_anchors_2 4 rfl rfl)
theorem dX1_anchors_53 : decode cX1_anchors 53 = .ok (.istore_n 2, 1) := dk_61 (dk_at dksX1_anchors_2 5 rfl rfl)
theorem dX1_anchors_54 : decode cX1_anchors 54 = .ok (.iinc 3 1, 3) := dk_132 3 1 (dk_at dksX1_anchors_2 6 rfl rfl)
theorem dX1_anchors_57 : decode cX1_anchors 57 = .ok (.goto (-41), 3) := dk_167 255 215 (dk_at dksX1_anchors_2 9 rfl rfl)
theorem dX1_anchors_60 : decode cX1_anchors 60 = .ok (.iload_n 2, 1) := dk_28 (dk_at dksX1_anchors_2 12 rfl rfl)
theorem dX1_anchors_61 : decode cX1_anchors 61 = .ok (.ireturn, 1) := dk_172 (dk_at dksX1_anchors_2 13 rfl rfl)
abbrev cX1_setThreshold : ByteArray := prog_1_method_36_code
def yX1_setThreshold : MethodName := ⟨RX1, "setThreshold", "(I)I"⟩
def dkwX1_setThreshold_1 : List UInt8 := [27, 181, 0, 162, 42, 1, 181, 0, 44, 28, 172]
abbrev dktX1_setThreshold_1 : List UInt8 := dkwX1_setThreshold_1 ++ []
def dkwX1_setThreshold_0 : List UInt8 := [27, 133, 9, 20, 1, 82, 184, 0, 63, 184, 0, 96, 42, 180, 0, 19, 180, 0, 162, 61, 42, 180, 0, 19]
abbrev dktX1_setThreshold_0 : List UInt8 := dkwX1_setThreshold_0 ++ dktX1_setThreshold_1
theorem dksX1_setThreshold_0 : cX1_setThreshold.data.toList.drop 0 = dktX1_setThreshold_0 := by decide +kernel
theorem dksX1_setThreshold_1 : cX1_setThreshold.data.toList.drop 24 = dktX1_setThreshold_1 := dk_seg dksX1_setThreshold_0 24 rfl rfl
theorem dX1_setThreshold_0 : decode cX1_setThreshold 0 = .ok (.iload_n 1, 1) := dk_27 (dk_at dksX1_setThreshold_0 0 rfl rfl)
theorem dX1_setThreshold_1 : decode cX1_setThreshold 1 = .ok (.i2l, 1) := dk_133 (dk_at dksX1_setThreshold_0 1 rfl rfl)
theorem dX1_setThreshold_2 : decode cX1_setThreshold 2 = .ok (.lconst 0, 1) := dk_9 (dk_at dksX1_setThreshold_0 2 rfl rfl)
theorem dX1_setThreshold_3 : decode cX1_setThreshold 3 = .ok (.ldc2_w 338, 3) := dk_20 1 82 (dk_at dksX1_setThreshold_0 3 rfl rfl)
theorem dX1_setThreshold_6 : decode cX1_setThreshold 6 = .ok (.invokestatic 63, 3) := dk_184 0 63 (dk_at dksX1_setThreshold_0 6 rfl rfl)
theorem dX1_setThreshold_9 : decode cX1_setThreshold 9 = .ok (.invokestatic 96, 3) := dk_184 0 96 (dk_at dksX1_setThreshold_0 9 rfl rfl)
theorem dX1_setThreshold_12 : decode cX1_setThreshold 12 = .ok (.aload_n 0, 1) := dk_42 (dk_at dksX1_setThreshold_0 12 rfl rfl)
theorem dX1_setThreshold_13 : decode cX1_setThreshold 13 = .ok (.getfield 19, 3) := dk_180 0 19 (dk_at dksX1_setThreshold_0 13 rfl rfl)
theorem dX1_setThreshold_16 : decode cX1_setThreshold 16 = .ok (.getfield 162, 3) := dk_180 0 162 (dk_at dksX1_setThreshold_0 16 rfl rfl)
theorem dX1_setThreshold_19 : decode cX1_setThreshold 19 = .ok (.istore_n 2, 1) := dk_61 (dk_at dksX1_setThreshold_0 19 rfl rfl)
theorem dX1_setThreshold_20 : decode cX1_setThreshold 20 = .ok (.aload_n 0, 1) := dk_42 (dk_at dksX1_setThreshold_0 20 rfl rfl)
theorem dX1_setThreshold_21 : decode cX1_setThreshold 21 = .ok (.getfield 19, 3) := dk_180 0 19 (dk_at dksX1_setThreshold_0 21 rfl rfl)
theorem dX1_setThreshold_24 : decode cX1_setThreshold 24 = .ok (.iload_n 1, 1) := dk_27 (dk_at dksX1_setThreshold_1 0 rfl rfl)
theorem dX1_setThreshold_25 : decode cX1_setThreshold 25 = .ok (.putfield 162, 3) := dk_181 0 162 (dk_at dksX1_setThreshold_1 1 rfl rfl)
theorem dX1_setThreshold_28 : decode cX1_setThreshold 28 = .ok (.aload_n 0, 1) := dk_42 (dk_at dksX1_setThreshold_1 4 rfl rfl)
theorem dX1_setThreshold_29 : decode cX1_setThreshold 29 = .ok (.aconst_null, 1) := dk_1 (dk_at dksX1_setThreshold_1 5 rfl rfl)
theorem dX1_setThreshold_30 : decode cX1_setThreshold 30 = .ok (.putfield 44, 3) := dk_181 0 44 (dk_at dksX1_setThreshold_1 6 rfl rfl)
theorem dX1_setThreshold_33 : decode cX1_setThreshold 33 = .ok (.iload_n 2, 1) := dk_28 (dk_at dksX1_setThreshold_1 9 rfl rfl)
theorem dX1_setThreshold_34 : decode cX1_setThreshold 34 = .ok (.ireturn, 1) := dk_172 (dk_at dksX1_setThreshold_1 10 rfl rfl)
abbrev cX1_areAlike : ByteArray := prog_1_method_37_code
def yX1_areAlike : MethodName := ⟨RX1, "areAlike", "(II)Z"⟩
def dkwX1_areAlike_2 : List UInt8 := [3, 184, 0, 67, 42, 182, 0, 155, 27, 28, 182, 1, 84, 172]
abbrev dktX1_areAlike_2 : List UInt8 := dkwX1_areAlike_2 ++ []
def dkwX1_areAlike_1 : List UInt8 := [9, 42, 180, 0, 19, 180, 0, 148, 182, 0, 57, 4, 100, 133, 184, 0, 63, 153, 0, 7, 4, 167, 0, 4]
abbrev dktX1_areAlike_1 : List UInt8 := dkwX1_areAlike_1 ++ dktX1_areAlike_2
def dkwX1_areAlike_0 : List UInt8 := [27, 133, 9, 42, 180, 0, 19, 180, 0, 148, 182, 0, 57, 4, 100, 133, 184, 0, 63, 153, 0, 29, 28, 133]
abbrev dktX1_areAlike_0 : List UInt8 := dkwX1_areAlike_0 ++ dktX1_areAlike_1
theorem dksX1_areAlike_0 : cX1_areAlike.data.toList.drop 0 = dktX1_areAlike_0 := by decide +kernel
theorem dksX1_areAlike_1 : cX1_areAlike.data.toList.drop 24 = dktX1_areAlike_1 := dk_seg dksX1_areAlike_0 24 rfl rfl
theorem dksX1_areAlike_2 : cX1_areAlike.data.toList.drop 48 = dktX1_areAlike_2 := dk_seg dksX1_areAlike_1 24 rfl rfl
theorem dX1_areAlike_0 : decode cX1_areAlike 0 = .ok (.iload_n 1, 1) := dk_27 (dk_at dksX1_areAlike_0 0 rfl rfl)
theorem dX1_areAlike_1 : decode cX1_areAlike 1 = .ok (.i2l, 1) := dk_133 (dk_at dksX1_areAlike_0 1 rfl rfl)
theorem dX1_areAlike_2 : decode cX1_areAlike 2 = .ok (.lconst 0, 1) := dk_9 (dk_at dksX1_areAlike_0 2 rfl rfl)
theorem dX1_areAlike_3 : decode cX1_areAlike 3 = .ok (.aload_n 0, 1) := dk_42 (dk_at dksX1_areAlike_0 3 rfl rfl)
theorem dX1_areAlike_4 : decode cX1_areAlike 4 = .ok (.getfield 19, 3) := dk_180 0 19 (dk_at dksX1_areAlike_0 4 rfl rfl)
theorem dX1_areAlike_7 : decode cX1_areAlike 7 = .ok (.getfield 148, 3) := dk_180 0 148 (dk_at dksX1_areAlike_0 7 rfl rfl)
theorem dX1_areAlike_10 : decode cX1_areAlike 10 = .ok (.invokevirtual 57, 3) := dk_182 0 57 (dk_at dksX1_areAlike_0 10 rfl rfl)
theorem dX1_areAlike_13 : decode cX1_areAlike 13 = .ok (.iconst 1, 1) := dk_4 (dk_at dksX1_areAlike_0 13 rfl rfl)
theorem dX1_areAlike_14 : decode cX1_areAlike 14 = .ok (.isub, 1) := dk_100 (dk_at dksX1_areAlike_0 14 rfl rfl)
theorem dX1_areAlike_15 : decode cX1_areAlike 15 = .ok (.i2l, 1) := dk_133 (dk_at dksX1_areAlike_0 15 rfl rfl)
theorem dX1_areAlike_16 : decode cX1_areAlike 16 = .ok (.invokestatic 63, 3) := dk_184 0 63 (dk_at dksX1_areAlike_0 16 rfl rfl)
theorem dX1_areAlike_19 : decode cX1_areAlike 19 = .ok (.ifCond .eq 29, 3) := dk_153 0 29 (dk_at dksX1_areAlike_0 19 rfl rfl)
theorem dX1_areAlike_22 : decode cX1_areAlike 22 = .ok (.iload_n 2, 1) := dk_28 (dk_at dksX1_areAlike_0 22 rfl rfl)
theorem dX1_areAlike_23 : decode cX1_areAlike 23 = .ok (.i2l, 1) := dk_133 (dk_at dksX1_areAlike_0 23 rfl rfl)
theorem dX1_areAlike_24 : decode cX1_areAlike 24 = .ok (.lconst 0, 1) := dk_9 (dk_at dksX1_areAlike_1 0 rfl rfl)
theorem dX1_areAlike_25 : decode cX1_areAlike 25 = .ok (.aload_n 0, 1) := dk_42 (dk_at dksX1_areAlike_1 1 rfl rfl)
theorem dX1_areAlike_26 : decode cX1_areAlike 26 = .ok (.getfield 19, 3) := dk_180 0 19 (dk_at dksX1_areAlike_1 2 rfl rfl)
theorem dX1_areAlike_29 : decode cX1_areAlike 29 = .ok (.getfield 148, 3) := dk_180 0 148 (dk_at dksX1_areAlike_1 5 rfl rfl)
theorem dX1_areAlike_32 : decode cX1_areAlike 32 = .ok (.invokevirtual 57, 3) := dk_182 0 57 (dk_at dksX1_areAlike_1 8 rfl rfl)
theorem dX1_areAlike_35 : decode cX1_areAlike 35 = .ok (.iconst 1, 1) := dk_4 (dk_at dksX1_areAlike_1 11 rfl rfl)
theorem dX1_areAlike_36 : decode cX1_areAlike 36 = .ok (.isub, 1) := dk_100 (dk_at dksX1_areAlike_1 12 rfl rfl)
theorem dX1_areAlike_37 : decode cX1_areAlike 37 = .ok (.i2l, 1) := dk_133 (dk_at dksX1_areAlike_1 13 rfl rfl)
theorem dX1_areAlike_38 : decode cX1_areAlike 38 = .ok (.invokestatic 63, 3) := dk_184 0 63 (dk_at dksX1_areAlike_1 14 rfl rfl)
theorem dX1_areAlike_41 : decode cX1_areAlike 41 = .ok (.ifCond .eq 7, 3) := dk_153 0 7 (dk_at dksX1_areAlike_1 17 rfl rfl)
theorem dX1_areAlike_44 : decode cX1_areAlike 44 = .ok (.iconst 1, 1) := dk_4 (dk_at dksX1_areAlike_1 20 rfl rfl)
theorem dX1_areAlike_45 : decode cX1_areAlike 45 = .ok (.goto 4, 3) := dk_167 0 4 (dk_at dksX1_areAlike_1 21 rfl rfl)
theorem dX1_areAlike_48 : decode cX1_areAlike 48 = .ok (.iconst 0, 1) := dk_3 (dk_at dksX1_areAlike_2 0 rfl rfl)
theorem dX1_areAlike_49 : decode cX1_areAlike 49 = .ok (.invokestatic 67, 3) := dk_184 0 67 (dk_at dksX1_areAlike_2 1 rfl rfl)
theorem dX1_areAlike_52 : decode cX1_areAlike 52 = .ok (.aload_n 0, 1) := dk_42 (dk_at dksX1_areAlike_2 4 rfl rfl)
theorem dX1_areAlike_53 : decode cX1_areAlike 53 = .ok (.invokevirtual 155, 3) := dk_182 0 155 (dk_at dksX1_areAlike_2 5 rfl rfl)
theorem dX1_areAlike_56 : decode cX1_areAlike 56 = .ok (.iload_n 1, 1) := dk_27 (dk_at dksX1_areAlike_2 8 rfl rfl)
theorem dX1_areAlike_57 : decode cX1_areAlike 57 = .ok (.iload_n 2, 1) := dk_28 (dk_at dksX1_areAlike_2 9 rfl rfl)
theorem dX1_areAlike_58 : decode cX1_areAlike 58 = .ok (.invokevirtual 340, 3) := dk_182 1 84 (dk_at dksX1_areAlike_2 10 rfl rfl)
theorem dX1_areAlike_61 : decode cX1_areAlike 61 = .ok (.ireturn, 1) := dk_172 (dk_at dksX1_areAlike_2 13 rfl rfl)
abbrev cX1_groupOf : ByteArray := prog_1_method_38_code
def yX1_groupOf : MethodName := ⟨RX1, "groupOf", "(I)I"⟩
def dkwX1_groupOf_0 : List UInt8 := [42, 27, 182, 1, 38, 77, 42, 182, 0, 155, 180, 1, 87, 27, 46, 172]
abbrev dktX1_groupOf_0 : List UInt8 := dkwX1_groupOf_0 ++ []
theorem dksX1_groupOf_0 : cX1_groupOf.data.toList.drop 0 = dktX1_groupOf_0 := by decide +kernel
theorem dX1_groupOf_0 : decode cX1_groupOf 0 = .ok (.aload_n 0, 1) := dk_42 (dk_at dksX1_groupOf_0 0 rfl rfl)
theorem dX1_groupOf_1 : decode cX1_groupOf 1 = .ok (.iload_n 1, 1) := dk_27 (dk_at dksX1_groupOf_0 1 rfl rfl)
theorem dX1_groupOf_2 : decode cX1_groupOf 2 = .ok (.invokevirtual 294, 3) := dk_182 1 38 (dk_at dksX1_groupOf_0 2 rfl rfl)
theorem dX1_groupOf_5 : decode cX1_groupOf 5 = .ok (.astore_n 2, 1) := dk_77 (dk_at dksX1_groupOf_0 5 rfl rfl)
theorem dX1_groupOf_6 : decode cX1_groupOf 6 = .ok (.aload_n 0, 1) := dk_42 (dk_at dksX1_groupOf_0 6 rfl rfl)
theorem dX1_groupOf_7 : decode cX1_groupOf 7 = .ok (.invokevirtual 155, 3) := dk_182 0 155 (dk_at dksX1_groupOf_0 7 rfl rfl)
theorem dX1_groupOf_10 : decode cX1_groupOf 10 = .ok (.getfield 343, 3) := dk_180 1 87 (dk_at dksX1_groupOf_0 10 rfl rfl)
theorem dX1_groupOf_13 : decode cX1_groupOf 13 = .ok (.iload_n 1, 1) := dk_27 (dk_at dksX1_groupOf_0 13 rfl rfl)
theorem dX1_groupOf_14 : decode cX1_groupOf 14 = .ok (.iaload, 1) := dk_46 (dk_at dksX1_groupOf_0 14 rfl rfl)
theorem dX1_groupOf_15 : decode cX1_groupOf 15 = .ok (.ireturn, 1) := dk_172 (dk_at dksX1_groupOf_0 15 rfl rfl)
abbrev cX1_group : ByteArray := prog_1_method_40_code
def yX1_group : MethodName := ⟨RX1, "group", "(II)I"⟩
def dkwX1_group_3 : List UInt8 := [180, 1, 102, 172, 45, 180, 1, 104, 172, 45, 180, 1, 105, 172, 45, 180, 1, 106, 172]
abbrev dktX1_group_3 : List UInt8 := dkwX1_group_3 ++ []
def dkwX1_group_2 : List UInt8 := [45, 180, 1, 96, 182, 0, 57, 172, 45, 180, 1, 96, 3, 182, 0, 71, 192, 1, 97, 182, 1, 99, 172, 45]
abbrev dktX1_group_2 : List UInt8 := dkwX1_group_2 ++ dktX1_group_3
def dkwX1_group_1 : List UInt8 := [170, 0, 0, 0, 71, 0, 0, 0, 0, 0, 0, 0, 4, 0, 0, 0, 33, 0, 0, 0, 41, 0, 0, 0, 56, 0, 0, 0, 61, 0, 0, 0, 66]
abbrev dktX1_group_1 : List UInt8 := dkwX1_group_1 ++ dktX1_group_2
def dkwX1_group_0 : List UInt8 := [42, 27, 182, 1, 92, 78, 28, 133, 9, 20, 0, 143, 184, 0, 63, 184, 0, 96, 28]
abbrev dktX1_group_0 : List UInt8 := dkwX1_group_0 ++ dktX1_group_1
theorem dksX1_group_0 : cX1_group.data.toList.drop 0 = dktX1_group_0 := by decide +kernel
theorem dksX1_group_1 : cX1_group.data.toList.drop 19 = dktX1_group_1 := dk_seg dksX1_group_0 19 rfl rfl
theorem dksX1_group_2 : cX1_group.data.toList.drop 52 = dktX1_group_2 := dk_seg dksX1_group_1 33 rfl rfl
theorem dksX1_group_3 : cX1_group.data.toList.drop 76 = dktX1_group_3 := dk_seg dksX1_group_2 24 rfl rfl
theorem dX1_group_0 : decode cX1_group 0 = .ok (.aload_n 0, 1) := dk_42 (dk_at dksX1_group_0 0 rfl rfl)
theorem dX1_group_1 : decode cX1_group 1 = .ok (.iload_n 1, 1) := dk_27 (dk_at dksX1_group_0 1 rfl rfl)
theorem dX1_group_2 : decode cX1_group 2 = .ok (.invokevirtual 348, 3) := dk_182 1 92 (dk_at dksX1_group_0 2 rfl rfl)
theorem dX1_group_5 : decode cX1_group 5 = .ok (.astore_n 3, 1) := dk_78 (dk_at dksX1_group_0 5 rfl rfl)
theorem dX1_group_6 : decode cX1_group 6 = .ok (.iload_n 2, 1) := dk_28 (dk_at dksX1_group_0 6 rfl rfl)
theorem dX1_group_7 : decode cX1_group 7 = .ok (.i2l, 1) := dk_133 (dk_at dksX1_group_0 7 rfl rfl)
theorem dX1_group_8 : decode cX1_group 8 = .ok (.lconst 0, 1) := dk_9 (dk_at dksX1_group_0 8 rfl rfl)
theorem dX1_group_9 : decode cX1_group 9 = .ok (.ldc2_w 143, 3) := dk_20 0 143 (dk_at dksX1_group_0 9 rfl rfl)
theorem dX1_group_12 : decode cX1_group 12 = .ok (.invokestatic 63, 3) := dk_184 0 63 (dk_at dksX1_group_0 12 rfl rfl)
theorem dX1_group_15 : decode cX1_group 15 = .ok (.invokestatic 96, 3) := dk_184 0 96 (dk_at dksX1_group_0 15 rfl rfl)
theorem dX1_group_18 : decode cX1_group 18 = .ok (.iload_n 2, 1) := dk_28 (dk_at dksX1_group_0 18 rfl rfl)
theorem dX1_group_19 : decode cX1_group 19 = .ok (.tableswitch 71 0 4 #[33, 41, 56, 61, 66], 33) := by decide +kernel
theorem dX1_group_52 : decode cX1_group 52 = .ok (.aload_n 3, 1) := dk_45 (dk_at dksX1_group_2 0 rfl rfl)
theorem dX1_group_53 : decode cX1_group 53 = .ok (.getfield 352, 3) := dk_180 1 96 (dk_at dksX1_group_2 1 rfl rfl)
theorem dX1_group_56 : decode cX1_group 56 = .ok (.invokevirtual 57, 3) := dk_182 0 57 (dk_at dksX1_group_2 4 rfl rfl)
theorem dX1_group_59 : decode cX1_group 59 = .ok (.ireturn, 1) := dk_172 (dk_at dksX1_group_2 7 rfl rfl)
theorem dX1_group_60 : decode cX1_group 60 = .ok (.aload_n 3, 1) := dk_45 (dk_at dksX1_group_2 8 rfl rfl)
theorem dX1_group_61 : decode cX1_group 61 = .ok (.getfield 352, 3) := dk_180 1 96 (dk_at dksX1_group_2 9 rfl rfl)
theorem dX1_group_64 : decode cX1_group 64 = .ok (.iconst 0, 1) := dk_3 (dk_at dksX1_group_2 12 rfl rfl)
theorem dX1_group_65 : decode cX1_group 65 = .ok (.invokevirtual 71, 3) := dk_182 0 71 (dk_at dksX1_group_2 13 rfl rfl)
theorem dX1_group_68 : decode cX1_group 68 = .ok (.checkcast 353, 3) := dk_192 1 97 (dk_at dksX1_group_2 16 rfl rfl)
theorem dX1_group_71 : decode cX1_group 71 = .ok (.invokevirtual 355, 3) := dk_182 1 99 (dk_at dksX1_group_2 19 rfl rfl)
theorem dX1_group_74 : decode cX1_group 74 = .ok (.ireturn, 1) := dk_172 (dk_at dksX1_group_2 22 rfl rfl)
theorem dX1_group_75 : decode cX1_group 75 = .ok (.aload_n 3, 1) := dk_45 (dk_at dksX1_group_2 23 rfl rfl)
theorem dX1_group_76 : decode cX1_group 76 = .ok (.getfield 358, 3) := dk_180 1 102 (dk_at dksX1_group_3 0 rfl rfl)
theorem dX1_group_79 : decode cX1_group 79 = .ok (.ireturn, 1) := dk_172 (dk_at dksX1_group_3 3 rfl rfl)
theorem dX1_group_80 : decode cX1_group 80 = .ok (.aload_n 3, 1) := dk_45 (dk_at dksX1_group_3 4 rfl rfl)
theorem dX1_group_81 : decode cX1_group 81 = .ok (.getfield 360, 3) := dk_180 1 104 (dk_at dksX1_group_3 5 rfl rfl)
theorem dX1_group_84 : decode cX1_group 84 = .ok (.ireturn, 1) := dk_172 (dk_at dksX1_group_3 8 rfl rfl)
theorem dX1_group_85 : decode cX1_group 85 = .ok (.aload_n 3, 1) := dk_45 (dk_at dksX1_group_3 9 rfl rfl)
theorem dX1_group_86 : decode cX1_group 86 = .ok (.getfield 361, 3) := dk_180 1 105 (dk_at dksX1_group_3 10 rfl rfl)
theorem dX1_group_89 : decode cX1_group 89 = .ok (.ireturn, 1) := dk_172 (dk_at dksX1_group_3 13 rfl rfl)
theorem dX1_group_90 : decode cX1_group 90 = .ok (.aload_n 3, 1) := dk_45 (dk_at dksX1_group_3 14 rfl rfl)
theorem dX1_group_91 : decode cX1_group 91 = .ok (.getfield 362, 3) := dk_180 1 106 (dk_at dksX1_group_3 15 rfl rfl)
theorem dX1_group_94 : decode cX1_group 94 = .ok (.ireturn, 1) := dk_172 (dk_at dksX1_group_3 18 rfl rfl)
abbrev cX1_groupAt : ByteArray := prog_1_method_39_code
def yX1_groupAt : MethodName := ⟨RX1, "groupAt", "(I)LNoteImporter$Group;"⟩
def dkwX1_groupAt_2 : List UInt8 := [180, 0, 159, 27, 182, 0, 71, 192, 1, 90, 176]
abbrev dktX1_groupAt_2 : List UInt8 := dkwX1_groupAt_2 ++ []
def dkwX1_groupAt_1 : List UInt8 := [182, 0, 57, 4, 100, 133, 184, 0, 63, 153, 0, 7, 4, 167, 0, 4, 3, 184, 0, 67, 42, 182, 0, 155]
abbrev dktX1_groupAt_1 : List UInt8 := dkwX1_groupAt_1 ++ dktX1_groupAt_2
def dkwX1_groupAt_0 : List UInt8 := [42, 180, 0, 19, 180, 0, 148, 182, 0, 151, 154, 0, 29, 27, 133, 9, 42, 182, 0, 155, 180, 0, 159]
abbrev dktX1_groupAt_0 : List UInt8 := dkwX1_groupAt_0 ++ dktX1_groupAt_1
theorem dksX1_groupAt_0 : cX1_groupAt.data.toList.drop 0 = dktX1_groupAt_0 := by decide +kernel
theorem dksX1_groupAt_1 : cX1_groupAt.data.toList.drop 23 = dktX1_groupAt_1 := dk_seg dksX1_groupAt_0 23 rfl rfl
theorem dksX1_groupAt_2 : cX1_groupAt.data.toList.drop 47 = dktX1_groupAt_2 := dk_seg dksX1_groupAt_1 24 rfl rfl
theorem dX1_groupAt_0 : decode cX1_groupAt 0 = .ok (.aload_n 0, 1) := dk_42 (dk_at dksX1_groupAt_0 0 rfl rfl)
theorem dX1_groupAt_1 : decode cX1_groupAt 1 = .ok (.getfield 19, 3) := dk_180 0 19 (dk_at dksX1_groupAt_0 1 rfl rfl)
theorem dX1_groupAt_4 : decode cX1_groupAt 4 = .ok (.getfield 148, 3) := dk_180 0 148 (dk_at dksX1_groupAt_0 4 rfl rfl)
theorem dX1_groupAt_7 : decode cX1_groupAt 7 = .ok (.invokevirtual 151, 3) := dk_182 0 151 (dk_at dksX1_groupAt_0 7 rfl rfl)
theorem dX1_groupAt_10 : decode cX1_groupAt 10 = .ok (.ifCond .ne 29, 3) := dk_154 0 29 (dk_at dksX1_groupAt_0 10 rfl rfl)
theorem dX1_groupAt_13 : decode cX1_groupAt 13 = .ok (.iload_n 1, 1) := dk_27 (dk_at dksX1_groupAt_0 13 rfl rfl)
theorem dX1_groupAt_14 : decode cX1_groupAt 14 = .ok (.i2l, 1) := dk_133 (dk_at dksX1_groupAt_0 14 rfl rfl)
theorem dX1_groupAt_15 : decode cX1_groupAt 15 = .ok (.lconst 0, 1) := dk_9 (dk_at dksX1_groupAt_0 15 rfl rfl)
theorem dX1_groupAt_16 : decode cX1_groupAt 16 = .ok (.aload_n 0, 1) := dk_42 (dk_at dksX1_groupAt_0 16 rfl rfl)
theorem dX1_groupAt_17 : decode cX1_groupAt 17 = .ok (.invokevirtual 155, 3) := dk_182 0 155 (dk_at dksX1_groupAt_0 17 rfl rfl)
theorem dX1_groupAt_20 : decode cX1_groupAt 20 = .ok (.getfield 159, 3) := dk_180 0 159 (dk_at dksX1_groupAt_0 20 rfl rfl)
theorem dX1_groupAt_23 : decode cX1_groupAt 23 = .ok (.invokevirtual 57, 3) := dk_182 0 57 (dk_at dksX1_groupAt_1 0 rfl rfl)
theorem dX1_groupAt_26 : decode cX1_groupAt 26 = .ok (.iconst 1, 1) := dk_4 (dk_at dksX1_groupAt_1 3 rfl rfl)
theorem dX1_groupAt_27 : decode cX1_groupAt 27 = .ok (.isub, 1) := dk_100 (dk_at dksX1_groupAt_1 4 rfl rfl)
theorem dX1_groupAt_28 : decode cX1_groupAt 28 = .ok (.i2l, 1) := dk_133 (dk_at dksX1_groupAt_1 5 rfl rfl)
theorem dX1_groupAt_29 : decode cX1_groupAt 29 = .ok (.invokestatic 63, 3) := dk_184 0 63 (dk_at dksX1_groupAt_1 6 rfl rfl)
theorem dX1_groupAt_32 : decode cX1_groupAt 32 = .ok (.ifCond .eq 7, 3) := dk_153 0 7 (dk_at dksX1_groupAt_1 9 rfl rfl)
theorem dX1_groupAt_35 : decode cX1_groupAt 35 = .ok (.iconst 1, 1) := dk_4 (dk_at dksX1_groupAt_1 12 rfl rfl)
theorem dX1_groupAt_36 : decode cX1_groupAt 36 = .ok (.goto 4, 3) := dk_167 0 4 (dk_at dksX1_groupAt_1 13 rfl rfl)
theorem dX1_groupAt_39 : decode cX1_groupAt 39 = .ok (.iconst 0, 1) := dk_3 (dk_at dksX1_groupAt_1 16 rfl rfl)
theorem dX1_groupAt_40 : decode cX1_groupAt 40 = .ok (.invokestatic 67, 3) := dk_184 0 67 (dk_at dksX1_groupAt_1 17 rfl rfl)
theorem dX1_groupAt_43 : decode cX1_groupAt 43 = .ok (.aload_n 0, 1) := dk_42 (dk_at dksX1_groupAt_1 20 rfl rfl)
theorem dX1_groupAt_44 : decode cX1_groupAt 44 = .ok (.invokevirtual 155, 3) := dk_182 0 155 (dk_at dksX1_groupAt_1 21 rfl rfl)
theorem dX1_groupAt_47 : decode cX1_groupAt 47 = .ok (.getfield 159, 3) := dk_180 0 159 (dk_at dksX1_groupAt_2 0 rfl rfl)
theorem dX1_groupAt_50 : decode cX1_groupAt 50 = .ok (.iload_n 1, 1) := dk_27 (dk_at dksX1_groupAt_2 3 rfl rfl)
theorem dX1_groupAt_51 : decode cX1_groupAt 51 = .ok (.invokevirtual 71, 3) := dk_182 0 71 (dk_at dksX1_groupAt_2 4 rfl rfl)
theorem dX1_groupAt_54 : decode cX1_groupAt 54 = .ok (.checkcast 346, 3) := dk_192 1 90 (dk_at dksX1_groupAt_2 7 rfl rfl)
theorem dX1_groupAt_57 : decode cX1_groupAt 57 = .ok (.areturn, 1) := dk_176 (dk_at dksX1_groupAt_2 10 rfl rfl)
abbrev cX1_heat : ByteArray := prog_1_method_42_code
def yX1_heat : MethodName := ⟨RX1, "heat", "(I)I"⟩
def dkwX1_heat_2 : List UInt8 := [182, 1, 118, 172]
abbrev dktX1_heat_2 : List UInt8 := dkwX1_heat_2 ++ []
def dkwX1_heat_1 : List UInt8 := [182, 0, 81, 133, 184, 0, 63, 153, 0, 7, 4, 167, 0, 4, 3, 184, 0, 67, 42, 182, 0, 155, 27]
abbrev dktX1_heat_1 : List UInt8 := dkwX1_heat_1 ++ dktX1_heat_2
def dkwX1_heat_0 : List UInt8 := [42, 180, 0, 19, 180, 0, 53, 182, 0, 151, 154, 0, 27, 27, 133, 9, 42, 180, 0, 19, 182, 1, 114]
abbrev dktX1_heat_0 : List UInt8 := dkwX1_heat_0 ++ dktX1_heat_1
theorem dksX1_heat_0 : cX1_heat.data.toList.drop 0 = dktX1_heat_0 := by decide +kernel
theorem dksX1_heat_1 : cX1_heat.data.toList.drop 23 = dktX1_heat_1 := dk_seg dksX1_heat_0 23 rfl rfl
theorem dksX1_heat_2 : cX1_heat.data.toList.drop 46 = dktX1_heat_2 := dk_seg dksX1_heat_1 23 rfl rfl
theorem dX1_heat_0 : decode cX1_heat 0 = .ok (.aload_n 0, 1) := dk_42 (dk_at dksX1_heat_0 0 rfl rfl)
theorem dX1_heat_1 : decode cX1_heat 1 = .ok (.getfield 19, 3) := dk_180 0 19 (dk_at dksX1_heat_0 1 rfl rfl)
theorem dX1_heat_4 : decode cX1_heat 4 = .ok (.getfield 53, 3) := dk_180 0 53 (dk_at dksX1_heat_0 4 rfl rfl)
theorem dX1_heat_7 : decode cX1_heat 7 = .ok (.invokevirtual 151, 3) := dk_182 0 151 (dk_at dksX1_heat_0 7 rfl rfl)
theorem dX1_heat_10 : decode cX1_heat 10 = .ok (.ifCond .ne 27, 3) := dk_154 0 27 (dk_at dksX1_heat_0 10 rfl rfl)
theorem dX1_heat_13 : decode cX1_heat 13 = .ok (.iload_n 1, 1) := dk_27 (dk_at dksX1_heat_0 13 rfl rfl)
theorem dX1_heat_14 : decode cX1_heat 14 = .ok (.i2l, 1) := dk_133 (dk_at dksX1_heat_0 14 rfl rfl)
theorem dX1_heat_15 : decode cX1_heat 15 = .ok (.lconst 0, 1) := dk_9 (dk_at dksX1_heat_0 15 rfl rfl)
theorem dX1_heat_16 : decode cX1_heat 16 = .ok (.aload_n 0, 1) := dk_42 (dk_at dksX1_heat_0 16 rfl rfl)
theorem dX1_heat_17 : decode cX1_heat 17 = .ok (.getfield 19, 3) := dk_180 0 19 (dk_at dksX1_heat_0 17 rfl rfl)
theorem dX1_heat_20 : decode cX1_heat 20 = .ok (.invokevirtual 370, 3) := dk_182 1 114 (dk_at dksX1_heat_0 20 rfl rfl)
theorem dX1_heat_23 : decode cX1_heat 23 = .ok (.invokevirtual 81, 3) := dk_182 0 81 (dk_at dksX1_heat_1 0 rfl rfl)
theorem dX1_heat_26 : decode cX1_heat 26 = .ok (.i2l, 1) := dk_133 (dk_at dksX1_heat_1 3 rfl rfl)
theorem dX1_heat_27 : decode cX1_heat 27 = .ok (.invokestatic 63, 3) := dk_184 0 63 (dk_at dksX1_heat_1 4 rfl rfl)
theorem dX1_heat_30 : decode cX1_heat 30 = .ok (.ifCond .eq 7, 3) := dk_153 0 7 (dk_at dksX1_heat_1 7 rfl rfl)
theorem dX1_heat_33 : decode cX1_heat 33 = .ok (.iconst 1, 1) := dk_4 (dk_at dksX1_heat_1 10 rfl rfl)
theorem dX1_heat_34 : decode cX1_heat 34 = .ok (.goto 4, 3) := dk_167 0 4 (dk_at dksX1_heat_1 11 rfl rfl)
theorem dX1_heat_37 : decode cX1_heat 37 = .ok (.iconst 0, 1) := dk_3 (dk_at dksX1_heat_1 14 rfl rfl)
theorem dX1_heat_38 : decode cX1_heat 38 = .ok (.invokestatic 67, 3) := dk_184 0 67 (dk_at dksX1_heat_1 15 rfl rfl)
theorem dX1_heat_41 : decode cX1_heat 41 = .ok (.aload_n 0, 1) := dk_42 (dk_at dksX1_heat_1 18 rfl rfl)
theorem dX1_heat_42 : decode cX1_heat 42 = .ok (.invokevirtual 155, 3) := dk_182 0 155 (dk_at dksX1_heat_1 19 rfl rfl)
theorem dX1_heat_45 : decode cX1_heat 45 = .ok (.iload_n 1, 1) := dk_27 (dk_at dksX1_heat_1 22 rfl rfl)
theorem dX1_heat_46 : decode cX1_heat 46 = .ok (.invokevirtual 374, 3) := dk_182 1 118 (dk_at dksX1_heat_2 0 rfl rfl)
theorem dX1_heat_49 : decode cX1_heat 49 = .ok (.ireturn, 1) := dk_172 (dk_at dksX1_heat_2 3 rfl rfl)
abbrev cX1_marginGroups : ByteArray := prog_1_method_45_code
def yX1_marginGroups : MethodName := ⟨RX1, "marginGroups", "(I)I"⟩
def dkwX1_marginGroups_3 : List UInt8 := [182, 1, 135, 172]
abbrev dktX1_marginGroups_3 : List UInt8 := dkwX1_marginGroups_3 ++ []
def dkwX1_marginGroups_2 : List UInt8 := [159, 0, 15, 44, 45, 21, 4, 46, 184, 1, 131, 182, 1, 134, 87, 132, 4, 1, 167, 255, 218, 44]
abbrev dktX1_marginGroups_2 : List UInt8 := dkwX1_marginGroups_2 ++ dktX1_marginGroups_3
def dkwX1_marginGroups_1 : List UInt8 := [54, 4, 21, 4, 42, 180, 0, 19, 182, 1, 114, 180, 0, 202, 162, 0, 29, 45, 21, 4, 46, 2]
abbrev dktX1_marginGroups_1 : List UInt8 := dkwX1_marginGroups_1 ++ dktX1_marginGroups_2
def dkwX1_marginGroups_0 : List UInt8 := [42, 27, 182, 1, 121, 187, 1, 124, 89, 183, 1, 126, 77, 42, 182, 0, 155, 27, 182, 1, 127, 78, 3]
abbrev dktX1_marginGroups_0 : List UInt8 := dkwX1_marginGroups_0 ++ dktX1_marginGroups_1
theorem dksX1_marginGroups_0 : cX1_marginGroups.data.toList.drop 0 = dktX1_marginGroups_0 := by decide +kernel
theorem dksX1_marginGroups_1 : cX1_marginGroups.data.toList.drop 23 = dktX1_marginGroups_1 := dk_seg dksX1_marginGroups_0 23 rfl rfl
theorem dksX1_marginGroups_2 : cX1_marginGroups.data.toList.drop 45 = dktX1_marginGroups_2 := dk_seg dksX1_marginGroups_1 22 rfl rfl
theorem dksX1_marginGroups_3 : cX1_marginGroups.data.toList.drop 67 = dktX1_marginGroups_3 := dk_seg dksX1_marginGroups_2 22 rfl rfl
theorem dX1_marginGroups_0 : decode cX1_marginGroups 0 = .ok (.aload_n 0, 1) := dk_42 (dk_at dksX1_marginGroups_0 0 rfl rfl)
theorem dX1_marginGroups_1 : decode cX1_marginGroups 1 = .ok (.iload_n 1, 1) := dk_27 (dk_at dksX1_marginGroups_0 1 rfl rfl)
theorem dX1_marginGroups_2 : decode cX1_marginGroups 2 = .ok (.invokevirtual 377, 3) := dk_182 1 121 (dk_at dksX1_marginGroups_0 2 rfl rfl)
theorem dX1_marginGroups_5 : decode cX1_marginGroups 5 = .ok (.new 380, 3) := dk_187 1 124 (dk_at dksX1_marginGroups_0 5 rfl rfl)
theorem dX1_marginGroups_8 : decode cX1_marginGroups 8 = .ok (.dup, 1) := dk_89 (dk_at dksX1_marginGroups_0 8 rfl rfl)
theorem dX1_marginGroups_9 : decode cX1_marginGroups 9 = .ok (.invokespecial 382, 3) := dk_183 1 126 (dk_at dksX1_marginGroups_0 9 rfl rfl)
theorem dX1_marginGroups_12 : decode cX1_marginGroups 12 = .ok (.astore_n 2, 1) := dk_77 (dk_at dksX1_marginGroups_0 12 rfl rfl)
theorem dX1_marginGroups_13 : decode cX1_marginGroups 13 = .ok (.aload_n 0, 1) := dk_42 (dk_at dksX1_marginGroups_0 13 rfl rfl)
theorem dX1_marginGroups_14 : decode cX1_marginGroups 14 = .ok (.invokevirtual 155, 3) := dk_182 0 155 (dk_at dksX1_marginGroups_0 14 rfl rfl)
theorem dX1_marginGroups_17 : decode cX1_marginGroups 17 = .ok (.iload_n 1, 1) := dk_27 (dk_at dksX1_marginGroups_0 17 rfl rfl)
theorem dX1_marginGroups_18 : decode cX1_marginGroups 18 = .ok (.invokevirtual 383, 3) := dk_182 1 127 (dk_at dksX1_marginGroups_0 18 rfl rfl)
theorem dX1_marginGroups_21 : decode cX1_marginGroups 21 = .ok (.astore_n 3, 1) := dk_78 (dk_at dksX1_marginGroups_0 21 rfl rfl)
theorem dX1_marginGroups_22 : decode cX1_marginGroups 22 = .ok (.iconst 0, 1) := dk_3 (dk_at dksX1_marginGroups_0 22 rfl rfl)
theorem dX1_marginGroups_23 : decode cX1_marginGroups 23 = .ok (.istore 4, 2) := dk_54 4 (dk_at dksX1_marginGroups_1 0 rfl rfl)
theorem dX1_marginGroups_25 : decode cX1_marginGroups 25 = .ok (.iload 4, 2) := dk_21 4 (dk_at dksX1_marginGroups_1 2 rfl rfl)
theorem dX1_marginGroups_27 : decode cX1_marginGroups 27 = .ok (.aload_n 0, 1) := dk_42 (dk_at dksX1_marginGroups_1 4 rfl rfl)
theorem dX1_marginGroups_28 : decode cX1_marginGroups 28 = .ok (.getfield 19, 3) := dk_180 0 19 (dk_at dksX1_marginGroups_1 5 rfl rfl)
theorem dX1_marginGroups_31 : decode cX1_marginGroups 31 = .ok (.invokevirtual 370, 3) := dk_182 1 114 (dk_at dksX1_marginGroups_1 8 rfl rfl)
theorem dX1_marginGroups_34 : decode cX1_marginGroups 34 = .ok (.getfield 202, 3) := dk_180 0 202 (dk_at dksX1_marginGroups_1 11 rfl rfl)
theorem dX1_marginGroups_37 : decode cX1_marginGroups 37 = .ok (.if_icmp .ge 29, 3) := dk_162 0 29 (dk_at dksX1_marginGroups_1 14 rfl rfl)
theorem dX1_marginGroups_40 : decode cX1_marginGroups 40 = .ok (.aload_n 3, 1) := dk_45 (dk_at dksX1_marginGroups_1 17 rfl rfl)
theorem dX1_marginGroups_41 : decode cX1_marginGroups 41 = .ok (.iload 4, 2) := dk_21 4 (dk_at dksX1_marginGroups_1 18 rfl rfl)
theorem dX1_marginGroups_43 : decode cX1_marginGroups 43 = .ok (.iaload, 1) := dk_46 (dk_at dksX1_marginGroups_1 20 rfl rfl)
theorem dX1_marginGroups_44 : decode cX1_marginGroups 44 = .ok (.iconst (-1), 1) := dk_2 (dk_at dksX1_marginGroups_1 21 rfl rfl)
theorem dX1_marginGroups_45 : decode cX1_marginGroups 45 = .ok (.if_icmp .eq 15, 3) := dk_159 0 15 (dk_at dksX1_marginGroups_2 0 rfl rfl)
theorem dX1_marginGroups_48 : decode cX1_marginGroups 48 = .ok (.aload_n 2, 1) := dk_44 (dk_at dksX1_marginGroups_2 3 rfl rfl)
theorem dX1_marginGroups_49 : decode cX1_marginGroups 49 = .ok (.aload_n 3, 1) := dk_45 (dk_at dksX1_marginGroups_2 4 rfl rfl)
theorem dX1_marginGroups_50 : decode cX1_marginGroups 50 = .ok (.iload 4, 2) := dk_21 4 (dk_at dksX1_marginGroups_2 5 rfl rfl)
theorem dX1_marginGroups_52 : decode cX1_marginGroups 52 = .ok (.iaload, 1) := dk_46 (dk_at dksX1_marginGroups_2 7 rfl rfl)
theorem dX1_marginGroups_53 : decode cX1_marginGroups 53 = .ok (.invokestatic 387, 3) := dk_184 1 131 (dk_at dksX1_marginGroups_2 8 rfl rfl)
theorem dX1_marginGroups_56 : decode cX1_marginGroups 56 = .ok (.invokevirtual 390, 3) := dk_182 1 134 (dk_at dksX1_marginGroups_2 11 rfl rfl)
theorem dX1_marginGroups_59 : decode cX1_marginGroups 59 = .ok (.pop, 1) := dk_87 (dk_at dksX1_marginGroups_2 14 rfl rfl)
theorem dX1_marginGroups_60 : decode cX1_marginGroups 60 = .ok (.iinc 4 1, 3) := dk_132 4 1 (dk_at dksX1_marginGroups_2 15 rfl rfl)
theorem dX1_marginGroups_63 : decode cX1_marginGroups 63 = .ok (.goto (-38), 3) := dk_167 255 218 (dk_at dksX1_marginGroups_2 18 rfl rfl)
theorem dX1_marginGroups_66 : decode cX1_marginGroups 66 = .ok (.aload_n 2, 1) := dk_44 (dk_at dksX1_marginGroups_2 21 rfl rfl)
theorem dX1_marginGroups_67 : decode cX1_marginGroups 67 = .ok (.invokevirtual 391, 3) := dk_182 1 135 (dk_at dksX1_marginGroups_3 0 rfl rfl)
theorem dX1_marginGroups_70 : decode cX1_marginGroups 70 = .ok (.ireturn, 1) := dk_172 (dk_at dksX1_marginGroups_3 3 rfl rfl)
abbrev cX1_checkPage : ByteArray := prog_1_method_44_code
def yX1_checkPage : MethodName := ⟨RX1, "checkPage", "(I)V"⟩
def dkwX1_checkPage_1 : List UInt8 := [182, 0, 208, 4, 100, 133, 184, 0, 63, 153, 0, 7, 4, 167, 0, 4, 3, 184, 0, 67, 177]
abbrev dktX1_checkPage_1 : List UInt8 := dkwX1_checkPage_1 ++ []
def dkwX1_checkPage_0 : List UInt8 := [42, 180, 0, 19, 180, 0, 53, 182, 0, 151, 154, 0, 29, 27, 133, 9, 42, 180, 0, 19, 182, 1, 114]
abbrev dktX1_checkPage_0 : List UInt8 := dkwX1_checkPage_0 ++ dktX1_checkPage_1
theorem dksX1_checkPage_0 : cX1_checkPage.data.toList.drop 0 = dktX1_checkPage_0 := by decide +kernel
theorem dksX1_checkPage_1 : cX1_checkPage.data.toList.drop 23 = dktX1_checkPage_1 := dk_seg dksX1_checkPage_0 23 rfl rfl
theorem dX1_checkPage_0 : decode cX1_checkPage 0 = .ok (.aload_n 0, 1) := dk_42 (dk_at dksX1_checkPage_0 0 rfl rfl)
theorem dX1_checkPage_1 : decode cX1_checkPage 1 = .ok (.getfield 19, 3) := dk_180 0 19 (dk_at dksX1_checkPage_0 1 rfl rfl)
theorem dX1_checkPage_4 : decode cX1_checkPage 4 = .ok (.getfield 53, 3) := dk_180 0 53 (dk_at dksX1_checkPage_0 4 rfl rfl)
theorem dX1_checkPage_7 : decode cX1_checkPage 7 = .ok (.invokevirtual 151, 3) := dk_182 0 151 (dk_at dksX1_checkPage_0 7 rfl rfl)
theorem dX1_checkPage_10 : decode cX1_checkPage 10 = .ok (.ifCond .ne 29, 3) := dk_154 0 29 (dk_at dksX1_checkPage_0 10 rfl rfl)
theorem dX1_checkPage_13 : decode cX1_checkPage 13 = .ok (.iload_n 1, 1) := dk_27 (dk_at dksX1_checkPage_0 13 rfl rfl)
theorem dX1_checkPage_14 : decode cX1_checkPage 14 = .ok (.i2l, 1) := dk_133 (dk_at dksX1_checkPage_0 14 rfl rfl)
theorem dX1_checkPage_15 : decode cX1_checkPage 15 = .ok (.lconst 0, 1) := dk_9 (dk_at dksX1_checkPage_0 15 rfl rfl)
theorem dX1_checkPage_16 : decode cX1_checkPage 16 = .ok (.aload_n 0, 1) := dk_42 (dk_at dksX1_checkPage_0 16 rfl rfl)
theorem dX1_checkPage_17 : decode cX1_checkPage 17 = .ok (.getfield 19, 3) := dk_180 0 19 (dk_at dksX1_checkPage_0 17 rfl rfl)
theorem dX1_checkPage_20 : decode cX1_checkPage 20 = .ok (.invokevirtual 370, 3) := dk_182 1 114 (dk_at dksX1_checkPage_0 20 rfl rfl)
theorem dX1_checkPage_23 : decode cX1_checkPage 23 = .ok (.invokevirtual 208, 3) := dk_182 0 208 (dk_at dksX1_checkPage_1 0 rfl rfl)
theorem dX1_checkPage_26 : decode cX1_checkPage 26 = .ok (.iconst 1, 1) := dk_4 (dk_at dksX1_checkPage_1 3 rfl rfl)
theorem dX1_checkPage_27 : decode cX1_checkPage 27 = .ok (.isub, 1) := dk_100 (dk_at dksX1_checkPage_1 4 rfl rfl)
theorem dX1_checkPage_28 : decode cX1_checkPage 28 = .ok (.i2l, 1) := dk_133 (dk_at dksX1_checkPage_1 5 rfl rfl)
theorem dX1_checkPage_29 : decode cX1_checkPage 29 = .ok (.invokestatic 63, 3) := dk_184 0 63 (dk_at dksX1_checkPage_1 6 rfl rfl)
theorem dX1_checkPage_32 : decode cX1_checkPage 32 = .ok (.ifCond .eq 7, 3) := dk_153 0 7 (dk_at dksX1_checkPage_1 9 rfl rfl)
theorem dX1_checkPage_35 : decode cX1_checkPage 35 = .ok (.iconst 1, 1) := dk_4 (dk_at dksX1_checkPage_1 12 rfl rfl)
theorem dX1_checkPage_36 : decode cX1_checkPage 36 = .ok (.goto 4, 3) := dk_167 0 4 (dk_at dksX1_checkPage_1 13 rfl rfl)
theorem dX1_checkPage_39 : decode cX1_checkPage 39 = .ok (.iconst 0, 1) := dk_3 (dk_at dksX1_checkPage_1 16 rfl rfl)
theorem dX1_checkPage_40 : decode cX1_checkPage 40 = .ok (.invokestatic 67, 3) := dk_184 0 67 (dk_at dksX1_checkPage_1 17 rfl rfl)
theorem dX1_checkPage_43 : decode cX1_checkPage 43 = .ok (.return_, 1) := dk_177 (dk_at dksX1_checkPage_1 20 rfl rfl)
abbrev cX1_marginRow : ByteArray := prog_1_method_46_code
def yX1_marginRow : MethodName := ⟨RX1, "marginRow", "(II)I"⟩
def dkwX1_marginRow_1 : List UInt8 := [184, 0, 67, 42, 182, 0, 155, 27, 182, 1, 127, 28, 46, 172]
abbrev dktX1_marginRow_1 : List UInt8 := dkwX1_marginRow_1 ++ []
def dkwX1_marginRow_0 : List UInt8 := [42, 27, 182, 1, 121, 28, 133, 9, 42, 180, 0, 19, 182, 1, 114, 180, 0, 202, 4, 100, 133, 184, 0, 63]
abbrev dktX1_marginRow_0 : List UInt8 := dkwX1_marginRow_0 ++ dktX1_marginRow_1
theorem dksX1_marginRow_0 : cX1_marginRow.data.toList.drop 0 = dktX1_marginRow_0 := by decide +kernel
theorem dksX1_marginRow_1 : cX1_marginRow.data.toList.drop 24 = dktX1_marginRow_1 := dk_seg dksX1_marginRow_0 24 rfl rfl
theorem dX1_marginRow_0 : decode cX1_marginRow 0 = .ok (.aload_n 0, 1) := dk_42 (dk_at dksX1_marginRow_0 0 rfl rfl)
theorem dX1_marginRow_1 : decode cX1_marginRow 1 = .ok (.iload_n 1, 1) := dk_27 (dk_at dksX1_marginRow_0 1 rfl rfl)
theorem dX1_marginRow_2 : decode cX1_marginRow 2 = .ok (.invokevirtual 377, 3) := dk_182 1 121 (dk_at dksX1_marginRow_0 2 rfl rfl)
theorem dX1_marginRow_5 : decode cX1_marginRow 5 = .ok (.iload_n 2, 1) := dk_28 (dk_at dksX1_marginRow_0 5 rfl rfl)
theorem dX1_marginRow_6 : decode cX1_marginRow 6 = .ok (.i2l, 1) := dk_133 (dk_at dksX1_marginRow_0 6 rfl rfl)
theorem dX1_marginRow_7 : decode cX1_marginRow 7 = .ok (.lconst 0, 1) := dk_9 (dk_at dksX1_marginRow_0 7 rfl rfl)
theorem dX1_marginRow_8 : decode cX1_marginRow 8 = .ok (.aload_n 0, 1) := dk_42 (dk_at dksX1_marginRow_0 8 rfl rfl)
theorem dX1_marginRow_9 : decode cX1_marginRow 9 = .ok (.getfield 19, 3) := dk_180 0 19 (dk_at dksX1_marginRow_0 9 rfl rfl)
theorem dX1_marginRow_12 : decode cX1_marginRow 12 = .ok (.invokevirtual 370, 3) := dk_182 1 114 (dk_at dksX1_marginRow_0 12 rfl rfl)
theorem dX1_marginRow_15 : decode cX1_marginRow 15 = .ok (.getfield 202, 3) := dk_180 0 202 (dk_at dksX1_marginRow_0 15 rfl rfl)
theorem dX1_marginRow_18 : decode cX1_marginRow 18 = .ok (.iconst 1, 1) := dk_4 (dk_at dksX1_marginRow_0 18 rfl rfl)
theorem dX1_marginRow_19 : decode cX1_marginRow 19 = .ok (.isub, 1) := dk_100 (dk_at dksX1_marginRow_0 19 rfl rfl)
theorem dX1_marginRow_20 : decode cX1_marginRow 20 = .ok (.i2l, 1) := dk_133 (dk_at dksX1_marginRow_0 20 rfl rfl)
theorem dX1_marginRow_21 : decode cX1_marginRow 21 = .ok (.invokestatic 63, 3) := dk_184 0 63 (dk_at dksX1_marginRow_0 21 rfl rfl)
theorem dX1_marginRow_24 : decode cX1_marginRow 24 = .ok (.invokestatic 67, 3) := dk_184 0 67 (dk_at dksX1_marginRow_1 0 rfl rfl)
theorem dX1_marginRow_27 : decode cX1_marginRow 27 = .ok (.aload_n 0, 1) := dk_42 (dk_at dksX1_marginRow_1 3 rfl rfl)
theorem dX1_marginRow_28 : decode cX1_marginRow 28 = .ok (.invokevirtual 155, 3) := dk_182 0 155 (dk_at dksX1_marginRow_1 4 rfl rfl)
theorem dX1_marginRow_31 : decode cX1_marginRow 31 = .ok (.iload_n 1, 1) := dk_27 (dk_at dksX1_marginRow_1 7 rfl rfl)
theorem dX1_marginRow_32 : decode cX1_marginRow 32 = .ok (.invokevirtual 383, 3) := dk_182 1 127 (dk_at dksX1_marginRow_1 8 rfl rfl)
theorem dX1_marginRow_35 : decode cX1_marginRow 35 = .ok (.iload_n 2, 1) := dk_28 (dk_at dksX1_marginRow_1 11 rfl rfl)
theorem dX1_marginRow_36 : decode cX1_marginRow 36 = .ok (.iaload, 1) := dk_46 (dk_at dksX1_marginRow_1 12 rfl rfl)
theorem dX1_marginRow_37 : decode cX1_marginRow 37 = .ok (.ireturn, 1) := dk_172 (dk_at dksX1_marginRow_1 13 rfl rfl)
abbrev cX1_write : ByteArray := prog_1_method_48_code
def yX1_write : MethodName := ⟨RX1, "write", "(I)I"⟩
def dkwX1_write_10 : List UInt8 := [182, 1, 136, 87, 167, 255, 219, 42, 180, 0, 36, 182, 0, 114, 172]
abbrev dktX1_write_10 : List UInt8 := dkwX1_write_10 ++ []
def dkwX1_write_9 : List UInt8 := [25, 4, 185, 0, 184, 1, 0, 192, 0, 141, 58, 5, 42, 180, 0, 36, 16, 32, 182, 0, 106, 25, 5]
abbrev dktX1_write_9 : List UInt8 := dkwX1_write_9 ++ dktX1_write_10
def dkwX1_write_8 : List UInt8 := [182, 0, 106, 87, 45, 180, 1, 53, 182, 0, 175, 58, 4, 25, 4, 185, 0, 179, 1, 0, 153, 0, 33]
abbrev dktX1_write_8 : List UInt8 := dkwX1_write_8 ++ dktX1_write_9
def dkwX1_write_7 : List UInt8 := [87, 132, 4, 1, 167, 255, 207, 45, 180, 1, 53, 182, 0, 151, 154, 0, 13, 42, 180, 0, 36, 16, 58]
abbrev dktX1_write_7 : List UInt8 := dkwX1_write_7 ++ dktX1_write_8
def dkwX1_write_6 : List UInt8 := [182, 0, 106, 42, 180, 0, 19, 182, 1, 114, 180, 0, 234, 21, 4, 182, 0, 71, 192, 0, 141, 182, 1, 136]
abbrev dktX1_write_6 : List UInt8 := dkwX1_write_6 ++ dktX1_write_7
def dkwX1_write_5 : List UInt8 := [54, 4, 21, 4, 2, 159, 0, 49, 21, 4, 44, 180, 1, 105, 163, 0, 40, 42, 180, 0, 36, 16, 32]
abbrev dktX1_write_5 : List UInt8 := dkwX1_write_5 ++ dktX1_write_6
def dkwX1_write_4 : List UInt8 := [42, 180, 0, 36, 184, 1, 139, 45, 180, 1, 45, 50, 180, 1, 145, 182, 1, 136, 87, 44, 180, 1, 104]
abbrev dktX1_write_4 : List UInt8 := dkwX1_write_4 ++ dktX1_write_5
def dkwX1_write_3 : List UInt8 := [132, 3, 1, 167, 255, 200, 42, 180, 0, 19, 180, 0, 148, 44, 180, 1, 106, 182, 0, 71, 192, 1, 7, 78]
abbrev dktX1_write_3 : List UInt8 := dkwX1_write_3 ++ dktX1_write_4
def dkwX1_write_2 : List UInt8 := [180, 0, 19, 180, 0, 145, 29, 182, 0, 71, 192, 0, 141, 182, 1, 136, 16, 32, 182, 0, 106, 87]
abbrev dktX1_write_2 : List UInt8 := dkwX1_write_2 ++ dktX1_write_3
def dkwX1_write_1 : List UInt8 := [182, 0, 57, 162, 0, 48, 44, 180, 1, 102, 29, 122, 4, 126, 4, 160, 0, 30, 42, 180, 0, 36, 42]
abbrev dktX1_write_1 : List UInt8 := dkwX1_write_1 ++ dktX1_write_2
def dkwX1_write_0 : List UInt8 := [42, 27, 182, 1, 92, 77, 42, 180, 0, 36, 3, 182, 0, 128, 3, 62, 29, 42, 180, 0, 19, 180, 0, 145]
abbrev dktX1_write_0 : List UInt8 := dkwX1_write_0 ++ dktX1_write_1
theorem dksX1_write_0 : cX1_write.data.toList.drop 0 = dktX1_write_0 := by decide +kernel
theorem dksX1_write_1 : cX1_write.data.toList.drop 24 = dktX1_write_1 := dk_seg dksX1_write_0 24 rfl rfl
theorem dksX1_write_2 : cX1_write.data.toList.drop 47 = dktX1_write_2 := dk_seg dksX1_write_1 23 rfl rfl
theorem dksX1_write_3 : cX1_write.data.toList.drop 69 = dktX1_write_3 := dk_seg dksX1_write_2 22 rfl rfl
theorem dksX1_write_4 : cX1_write.data.toList.drop 93 = dktX1_write_4 := dk_seg dksX1_write_3 24 rfl rfl
theorem dksX1_write_5 : cX1_write.data.toList.drop 116 = dktX1_write_5 := dk_seg dksX1_write_4 23 rfl rfl
theorem dksX1_write_6 : cX1_write.data.toList.drop 139 = dktX1_write_6 := dk_seg dksX1_write_5 23 rfl rfl
theorem dksX1_write_7 : cX1_write.data.toList.drop 163 = dktX1_write_7 := dk_seg dksX1_write_6 24 rfl rfl
theorem dksX1_write_8 : cX1_write.data.toList.drop 186 = dktX1_write_8 := dk_seg dksX1_write_7 23 rfl rfl
theorem dksX1_write_9 : cX1_write.data.toList.drop 209 = dktX1_write_9 := dk_seg dksX1_write_8 23 rfl rfl
theorem dksX1_write_10 : cX1_write.data.toList.drop 232 = dktX1_write_10 := dk_seg dksX1_write_9 23 rfl rfl
theorem dX1_write_0 : decode cX1_write 0 = .ok (.aload_n 0, 1) := dk_42 (dk_at dksX1_write_0 0 rfl rfl)
theorem dX1_write_1 : decode cX1_write 1 = .ok (.iload_n 1, 1) := dk_27 (dk_at dksX1_write_0 1 rfl rfl)
theorem dX1_write_2 : decode cX1_write 2 = .ok (.invokevirtual 348, 3) := dk_182 1 92 (dk_at dksX1_write_0 2 rfl rfl)
theorem dX1_write_5 : decode cX1_write 5 = .ok (.astore_n 2, 1) := dk_77 (dk_at dksX1_write_0 5 rfl rfl)
theorem dX1_write_6 : decode cX1_write 6 = .ok (.aload_n 0, 1) := dk_42 (dk_at dksX1_write_0 6 rfl rfl)
theorem dX1_write_7 : decode cX1_write 7 = .ok (.getfield 36, 3) := dk_180 0 36 (dk_at dksX1_write_0 7 rfl rfl)
theorem dX1_write_10 : decode cX1_write 10 = .ok (.iconst 0, 1) := dk_3 (dk_at dksX1_write_0 10 rfl rfl)
theorem dX1_write_11 : decode cX1_write 11 = .ok (.invokevirtual 128, 3) := dk_182 0 128 (dk_at dksX1_write_0 11 rfl rfl)
theorem dX1_write_14 : decode cX1_write 14 = .ok (.iconst 0, 1) := dk_3 (dk_at dksX1_write_0 14 rfl rfl)
theorem dX1_write_15 : decode cX1_write 15 = .ok (.istore_n 3, 1) := dk_62 (dk_at dksX1_write_0 15 rfl rfl)
theorem dX1_write_16 : decode cX1_write 16 = .ok (.iload_n 3, 1) := dk_29 (dk_at dksX1_write_0 16 rfl rfl)
theorem dX1_write_17 : decode cX1_write 17 = .ok (.aload_n 0, 1) := dk_42 (dk_at dksX1_write_0 17 rfl rfl)
theorem dX1_write_18 : decode cX1_write 18 = .ok (.getfield 19, 3) := dk_180 0 19 (dk_at dksX1_write_0 18 rfl rfl)
theorem dX1_write_21 : decode cX1_write 21 = .ok (.getfield 145, 3) := dk_180 0 145 (dk_at dksX1_write_0 21 rfl rfl)
theorem dX1_write_24 : decode cX1_write 24 = .ok (.invokevirtual 57, 3) := dk_182 0 57 (dk_at dksX1_write_1 0 rfl rfl)
theorem dX1_write_27 : decode cX1_write 27 = .ok (.if_icmp .ge 48, 3) := dk_162 0 48 (dk_at dksX1_write_1 3 rfl rfl)
theorem dX1_write_30 : decode cX1_write 30 = .ok (.aload_n 2, 1) := dk_44 (dk_at dksX1_write_1 6 rfl rfl)
theorem dX1_write_31 : decode cX1_write 31 = .ok (.getfield 358, 3) := dk_180 1 102 (dk_at dksX1_write_1 7 rfl rfl)
theorem dX1_write_34 : decode cX1_write 34 = .ok (.iload_n 3, 1) := dk_29 (dk_at dksX1_write_1 10 rfl rfl)
theorem dX1_write_35 : decode cX1_write 35 = .ok (.ishr, 1) := dk_122 (dk_at dksX1_write_1 11 rfl rfl)
theorem dX1_write_36 : decode cX1_write 36 = .ok (.iconst 1, 1) := dk_4 (dk_at dksX1_write_1 12 rfl rfl)
theorem dX1_write_37 : decode cX1_write 37 = .ok (.iand, 1) := dk_126 (dk_at dksX1_write_1 13 rfl rfl)
theorem dX1_write_38 : decode cX1_write 38 = .ok (.iconst 1, 1) := dk_4 (dk_at dksX1_write_1 14 rfl rfl)
theorem dX1_write_39 : decode cX1_write 39 = .ok (.if_icmp .ne 30, 3) := dk_160 0 30 (dk_at dksX1_write_1 15 rfl rfl)
theorem dX1_write_42 : decode cX1_write 42 = .ok (.aload_n 0, 1) := dk_42 (dk_at dksX1_write_1 18 rfl rfl)
theorem dX1_write_43 : decode cX1_write 43 = .ok (.getfield 36, 3) := dk_180 0 36 (dk_at dksX1_write_1 19 rfl rfl)
theorem dX1_write_46 : decode cX1_write 46 = .ok (.aload_n 0, 1) := dk_42 (dk_at dksX1_write_1 22 rfl rfl)
theorem dX1_write_47 : decode cX1_write 47 = .ok (.getfield 19, 3) := dk_180 0 19 (dk_at dksX1_write_2 0 rfl rfl)
theorem dX1_write_50 : decode cX1_write 50 = .ok (.getfield 145, 3) := dk_180 0 145 (dk_at dksX1_write_2 3 rfl rfl)
theorem dX1_write_53 : decode cX1_write 53 = .ok (.iload_n 3, 1) := dk_29 (dk_at dksX1_write_2 6 rfl rfl)
theorem dX1_write_54 : decode cX1_write 54 = .ok (.invokevirtual 71, 3) := dk_182 0 71 (dk_at dksX1_write_2 7 rfl rfl)
theorem dX1_write_57 : decode cX1_write 57 = .ok (.checkcast 141, 3) := dk_192 0 141 (dk_at dksX1_write_2 10 rfl rfl)
theorem dX1_write_60 : decode cX1_write 60 = .ok (.invokevirtual 392, 3) := dk_182 1 136 (dk_at dksX1_write_2 13 rfl rfl)
theorem dX1_write_63 : decode cX1_write 63 = .ok (.bipush 32, 2) := dk_16 32 (dk_at dksX1_write_2 16 rfl rfl)
theorem dX1_write_65 : decode cX1_write 65 = .ok (.invokevirtual 106, 3) := dk_182 0 106 (dk_at dksX1_write_2 18 rfl rfl)
theorem dX1_write_68 : decode cX1_write 68 = .ok (.pop, 1) := dk_87 (dk_at dksX1_write_2 21 rfl rfl)
theorem dX1_write_69 : decode cX1_write 69 = .ok (.iinc 3 1, 3) := dk_132 3 1 (dk_at dksX1_write_3 0 rfl rfl)
theorem dX1_write_72 : decode cX1_write 72 = .ok (.goto (-56), 3) := dk_167 255 200 (dk_at dksX1_write_3 3 rfl rfl)
theorem dX1_write_75 : decode cX1_write 75 = .ok (.aload_n 0, 1) := dk_42 (dk_at dksX1_write_3 6 rfl rfl)
theorem dX1_write_76 : decode cX1_write 76 = .ok (.getfield 19, 3) := dk_180 0 19 (dk_at dksX1_write_3 7 rfl rfl)
theorem dX1_write_79 : decode cX1_write 79 = .ok (.getfield 148, 3) := dk_180 0 148 (dk_at dksX1_write_3 10 rfl rfl)
theorem dX1_write_82 : decode cX1_write 82 = .ok (.aload_n 2, 1) := dk_44 (dk_at dksX1_write_3 13 rfl rfl)
theorem dX1_write_83 : decode cX1_write 83 = .ok (.getfield 362, 3) := dk_180 1 106 (dk_at dksX1_write_3 14 rfl rfl)
theorem dX1_write_86 : decode cX1_write 86 = .ok (.invokevirtual 71, 3) := dk_182 0 71 (dk_at dksX1_write_3 17 rfl rfl)
theorem dX1_write_89 : decode cX1_write 89 = .ok (.checkcast 263, 3) := dk_192 1 7 (dk_at dksX1_write_3 20 rfl rfl)
theorem dX1_write_92 : decode cX1_write 92 = .ok (.astore_n 3, 1) := dk_78 (dk_at dksX1_write_3 23 rfl rfl)
theorem dX1_write_93 : decode cX1_write 93 = .ok (.aload_n 0, 1) := dk_42 (dk_at dksX1_write_4 0 rfl rfl)
theorem dX1_write_94 : decode cX1_write 94 = .ok (.getfield 36, 3) := dk_180 0 36 (dk_at dksX1_write_4 1 rfl rfl)
theorem dX1_write_97 : decode cX1_write 97 = .ok (.invokestatic 395, 3) := dk_184 1 139 (dk_at dksX1_write_4 4 rfl rfl)
theorem dX1_write_100 : decode cX1_write 100 = .ok (.aload_n 3, 1) := dk_45 (dk_at dksX1_write_4 7 rfl rfl)
theorem dX1_write_101 : decode cX1_write 101 = .ok (.getfield 301, 3) := dk_180 1 45 (dk_at dksX1_write_4 8 rfl rfl)
theorem dX1_write_104 : decode cX1_write 104 = .ok (.aaload, 1) := dk_50 (dk_at dksX1_write_4 11 rfl rfl)
theorem dX1_write_105 : decode cX1_write 105 = .ok (.getfield 401, 3) := dk_180 1 145 (dk_at dksX1_write_4 12 rfl rfl)
theorem dX1_write_108 : decode cX1_write 108 = .ok (.invokevirtual 392, 3) := dk_182 1 136 (dk_at dksX1_write_4 15 rfl rfl)
theorem dX1_write_111 : decode cX1_write 111 = .ok (.pop, 1) := dk_87 (dk_at dksX1_write_4 18 rfl rfl)
theorem dX1_write_112 : decode cX1_write 112 = .ok (.aload_n 2, 1) := dk_44 (dk_at dksX1_write_4 19 rfl rfl)
theorem dX1_write_113 : decode cX1_write 113 = .ok (.getfield 360, 3) := dk_180 1 104 (dk_at dksX1_write_4 20 rfl rfl)
theorem dX1_write_116 : decode cX1_write 116 = .ok (.istore 4, 2) := dk_54 4 (dk_at dksX1_write_5 0 rfl rfl)
theorem dX1_write_118 : decode cX1_write 118 = .ok (.iload 4, 2) := dk_21 4 (dk_at dksX1_write_5 2 rfl rfl)
theorem dX1_write_120 : decode cX1_write 120 = .ok (.iconst (-1), 1) := dk_2 (dk_at dksX1_write_5 4 rfl rfl)
theorem dX1_write_121 : decode cX1_write 121 = .ok (.if_icmp .eq 49, 3) := dk_159 0 49 (dk_at dksX1_write_5 5 rfl rfl)
theorem dX1_write_124 : decode cX1_write 124 = .ok (.iload 4, 2) := dk_21 4 (dk_at dksX1_write_5 8 rfl rfl)
theorem dX1_write_126 : decode cX1_write 126 = .ok (.aload_n 2, 1) := dk_44 (dk_at dksX1_write_5 10 rfl rfl)
theorem dX1_write_127 : decode cX1_write 127 = .ok (.getfield 361, 3) := dk_180 1 105 (dk_at dksX1_write_5 11 rfl rfl)
theorem dX1_write_130 : decode cX1_write 130 = .ok (.if_icmp .gt 40, 3) := dk_163 0 40 (dk_at dksX1_write_5 14 rfl rfl)
theorem dX1_write_133 : decode cX1_write 133 = .ok (.aload_n 0, 1) := dk_42 (dk_at dksX1_write_5 17 rfl rfl)
theorem dX1_write_134 : decode cX1_write 134 = .ok (.getfield 36, 3) := dk_180 0 36 (dk_at dksX1_write_5 18 rfl rfl)
theorem dX1_write_137 : decode cX1_write 137 = .ok (.bipush 32, 2) := dk_16 32 (dk_at dksX1_write_5 21 rfl rfl)
theorem dX1_write_139 : decode cX1_write 139 = .ok (.invokevirtual 106, 3) := dk_182 0 106 (dk_at dksX1_write_6 0 rfl rfl)
theorem dX1_write_142 : decode cX1_write 142 = .ok (.aload_n 0, 1) := dk_42 (dk_at dksX1_write_6 3 rfl rfl)
theorem dX1_write_143 : decode cX1_write 143 = .ok (.getfield 19, 3) := dk_180 0 19 (dk_at dksX1_write_6 4 rfl rfl)
theorem dX1_write_146 : decode cX1_write 146 = .ok (.invokevirtual 370, 3) := dk_182 1 114 (dk_at dksX1_write_6 7 rfl rfl)
theorem dX1_write_149 : decode cX1_write 149 = .ok (.getfield 234, 3) := dk_180 0 234 (dk_at dksX1_write_6 10 rfl rfl)
theorem dX1_write_152 : decode cX1_write 152 = .ok (.iload 4, 2) := dk_21 4 (dk_at dksX1_write_6 13 rfl rfl)
theorem dX1_write_154 : decode cX1_write 154 = .ok (.invokevirtual 71, 3) := dk_182 0 71 (dk_at dksX1_write_6 15 rfl rfl)
theorem dX1_write_157 : decode cX1_write 157 = .ok (.checkcast 141, 3) := dk_192 0 141 (dk_at dksX1_write_6 18 rfl rfl)
theorem dX1_write_160 : decode cX1_write 160 = .ok (.invokevirtual 392, 3) := dk_182 1 136 (dk_at dksX1_write_6 21 rfl rfl)
theorem dX1_write_163 : decode cX1_write 163 = .ok (.pop, 1) := dk_87 (dk_at dksX1_write_7 0 rfl rfl)
theorem dX1_write_164 : decode cX1_write 164 = .ok (.iinc 4 1, 3) := dk_132 4 1 (dk_at dksX1_write_7 1 rfl rfl)
theorem dX1_write_167 : decode cX1_write 167 = .ok (.goto (-49), 3) := dk_167 255 207 (dk_at dksX1_write_7 4 rfl rfl)
theorem dX1_write_170 : decode cX1_write 170 = .ok (.aload_n 3, 1) := dk_45 (dk_at dksX1_write_7 7 rfl rfl)
theorem dX1_write_171 : decode cX1_write 171 = .ok (.getfield 309, 3) := dk_180 1 53 (dk_at dksX1_write_7 8 rfl rfl)
theorem dX1_write_174 : decode cX1_write 174 = .ok (.invokevirtual 151, 3) := dk_182 0 151 (dk_at dksX1_write_7 11 rfl rfl)
theorem dX1_write_177 : decode cX1_write 177 = .ok (.ifCond .ne 13, 3) := dk_154 0 13 (dk_at dksX1_write_7 14 rfl rfl)
theorem dX1_write_180 : decode cX1_write 180 = .ok (.aload_n 0, 1) := dk_42 (dk_at dksX1_write_7 17 rfl rfl)
theorem dX1_write_181 : decode cX1_write 181 = .ok (.getfield 36, 3) := dk_180 0 36 (dk_at dksX1_write_7 18 rfl rfl)
theorem dX1_write_184 : decode cX1_write 184 = .ok (.bipush 58, 2) := dk_16 58 (dk_at dksX1_write_7 21 rfl rfl)
theorem dX1_write_186 : decode cX1_write 186 = .ok (.invokevirtual 106, 3) := dk_182 0 106 (dk_at dksX1_write_8 0 rfl rfl)
theorem dX1_write_189 : decode cX1_write 189 = .ok (.pop, 1) := dk_87 (dk_at dksX1_write_8 3 rfl rfl)
theorem dX1_write_190 : decode cX1_write 190 = .ok (.aload_n 3, 1) := dk_45 (dk_at dksX1_write_8 4 rfl rfl)
theorem dX1_write_191 : decode cX1_write 191 = .ok (.getfield 309, 3) := dk_180 1 53 (dk_at dksX1_write_8 5 rfl rfl)
theorem dX1_write_194 : decode cX1_write 194 = .ok (.invokevirtual 175, 3) := dk_182 0 175 (dk_at dksX1_write_8 8 rfl rfl)
theorem dX1_write_197 : decode cX1_write 197 = .ok (.astore 4, 2) := dk_58 4 (dk_at dksX1_write_8 11 rfl rfl)
theorem dX1_write_199 : decode cX1_write 199 = .ok (.aload 4, 2) := dk_25 4 (dk_at dksX1_write_8 13 rfl rfl)
theorem dX1_write_201 : decode cX1_write 201 = .ok (.invokeinterface 179 1, 5) := by decide +kernel
theorem dX1_write_206 : decode cX1_write 206 = .ok (.ifCond .eq 33, 3) := dk_153 0 33 (dk_at dksX1_write_8 20 rfl rfl)
theorem dX1_write_209 : decode cX1_write 209 = .ok (.aload 4, 2) := dk_25 4 (dk_at dksX1_write_9 0 rfl rfl)
theorem dX1_write_211 : decode cX1_write 211 = .ok (.invokeinterface 184 1, 5) := by decide +kernel
theorem dX1_write_216 : decode cX1_write 216 = .ok (.checkcast 141, 3) := dk_192 0 141 (dk_at dksX1_write_9 7 rfl rfl)
theorem dX1_write_219 : decode cX1_write 219 = .ok (.astore 5, 2) := dk_58 5 (dk_at dksX1_write_9 10 rfl rfl)
theorem dX1_write_221 : decode cX1_write 221 = .ok (.aload_n 0, 1) := dk_42 (dk_at dksX1_write_9 12 rfl rfl)
theorem dX1_write_222 : decode cX1_write 222 = .ok (.getfield 36, 3) := dk_180 0 36 (dk_at dksX1_write_9 13 rfl rfl)
theorem dX1_write_225 : decode cX1_write 225 = .ok (.bipush 32, 2) := dk_16 32 (dk_at dksX1_write_9 16 rfl rfl)
theorem dX1_write_227 : decode cX1_write 227 = .ok (.invokevirtual 106, 3) := dk_182 0 106 (dk_at dksX1_write_9 18 rfl rfl)
theorem dX1_write_230 : decode cX1_write 230 = .ok (.aload 5, 2) := dk_25 5 (dk_at dksX1_write_9 21 rfl rfl)
theorem dX1_write_232 : decode cX1_write 232 = .ok (.invokevirtual 392, 3) := dk_182 1 136 (dk_at dksX1_write_10 0 rfl rfl)
theorem dX1_write_235 : decode cX1_write 235 = .ok (.pop, 1) := dk_87 (dk_at dksX1_write_10 3 rfl rfl)
theorem dX1_write_236 : decode cX1_write 236 = .ok (.goto (-37), 3) := dk_167 255 219 (dk_at dksX1_write_10 4 rfl rfl)
theorem dX1_write_239 : decode cX1_write 239 = .ok (.aload_n 0, 1) := dk_42 (dk_at dksX1_write_10 7 rfl rfl)
theorem dX1_write_240 : decode cX1_write 240 = .ok (.getfield 36, 3) := dk_180 0 36 (dk_at dksX1_write_10 8 rfl rfl)
theorem dX1_write_243 : decode cX1_write 243 = .ok (.invokevirtual 114, 3) := dk_182 0 114 (dk_at dksX1_write_10 11 rfl rfl)
theorem dX1_write_246 : decode cX1_write 246 = .ok (.ireturn, 1) := dk_172 (dk_at dksX1_write_10 14 rfl rfl)
abbrev cX1_outputByte : ByteArray := prog_1_method_49_code
def yX1_outputByte : MethodName := ⟨RX1, "outputByte", "(I)I"⟩
def dkwX1_outputByte_1 : List UInt8 := [180, 0, 36, 27, 182, 1, 149, 167, 0, 4, 2, 172]
abbrev dktX1_outputByte_1 : List UInt8 := dkwX1_outputByte_1 ++ []
def dkwX1_outputByte_0 : List UInt8 := [27, 155, 0, 7, 4, 167, 0, 4, 3, 184, 0, 67, 27, 42, 180, 0, 36, 182, 0, 114, 162, 0, 14, 42]
abbrev dktX1_outputByte_0 : List UInt8 := dkwX1_outputByte_0 ++ dktX1_outputByte_1
theorem dksX1_outputByte_0 : cX1_outputByte.data.toList.drop 0 = dktX1_outputByte_0 := by decide +kernel
theorem dksX1_outputByte_1 : cX1_outputByte.data.toList.drop 24 = dktX1_outputByte_1 := dk_seg dksX1_outputByte_0 24 rfl rfl
theorem dX1_outputByte_0 : decode cX1_outputByte 0 = .ok (.iload_n 1, 1) := dk_27 (dk_at dksX1_outputByte_0 0 rfl rfl)
theorem dX1_outputByte_1 : decode cX1_outputByte 1 = .ok (.ifCond .lt 7, 3) := dk_155 0 7 (dk_at dksX1_outputByte_0 1 rfl rfl)
theorem dX1_outputByte_4 : decode cX1_outputByte 4 = .ok (.iconst 1, 1) := dk_4 (dk_at dksX1_outputByte_0 4 rfl rfl)
theorem dX1_outputByte_5 : decode cX1_outputByte 5 = .ok (.goto 4, 3) := dk_167 0 4 (dk_at dksX1_outputByte_0 5 rfl rfl)
theorem dX1_outputByte_8 : decode cX1_outputByte 8 = .ok (.iconst 0, 1) := dk_3 (dk_at dksX1_outputByte_0 8 rfl rfl)
theorem dX1_outputByte_9 : decode cX1_outputByte 9 = .ok (.invokestatic 67, 3) := dk_184 0 67 (dk_at dksX1_outputByte_0 9 rfl rfl)
theorem dX1_outputByte_12 : decode cX1_outputByte 12 = .ok (.iload_n 1, 1) := dk_27 (dk_at dksX1_outputByte_0 12 rfl rfl)
theorem dX1_outputByte_13 : decode cX1_outputByte 13 = .ok (.aload_n 0, 1) := dk_42 (dk_at dksX1_outputByte_0 13 rfl rfl)
theorem dX1_outputByte_14 : decode cX1_outputByte 14 = .ok (.getfield 36, 3) := dk_180 0 36 (dk_at dksX1_outputByte_0 14 rfl rfl)
theorem dX1_outputByte_17 : decode cX1_outputByte 17 = .ok (.invokevirtual 114, 3) := dk_182 0 114 (dk_at dksX1_outputByte_0 17 rfl rfl)
theorem dX1_outputByte_20 : decode cX1_outputByte 20 = .ok (.if_icmp .ge 14, 3) := dk_162 0 14 (dk_at dksX1_outputByte_0 20 rfl rfl)
theorem dX1_outputByte_23 : decode cX1_outputByte 23 = .ok (.aload_n 0, 1) := dk_42 (dk_at dksX1_outputByte_0 23 rfl rfl)
theorem dX1_outputByte_24 : decode cX1_outputByte 24 = .ok (.getfield 36, 3) := dk_180 0 36 (dk_at dksX1_outputByte_1 0 rfl rfl)
theorem dX1_outputByte_27 : decode cX1_outputByte 27 = .ok (.iload_n 1, 1) := dk_27 (dk_at dksX1_outputByte_1 3 rfl rfl)
theorem dX1_outputByte_28 : decode cX1_outputByte 28 = .ok (.invokevirtual 405, 3) := dk_182 1 149 (dk_at dksX1_outputByte_1 4 rfl rfl)
theorem dX1_outputByte_31 : decode cX1_outputByte 31 = .ok (.goto 4, 3) := dk_167 0 4 (dk_at dksX1_outputByte_1 7 rfl rfl)
theorem dX1_outputByte_34 : decode cX1_outputByte 34 = .ok (.iconst (-1), 1) := dk_2 (dk_at dksX1_outputByte_1 10 rfl rfl)
theorem dX1_outputByte_35 : decode cX1_outputByte 35 = .ok (.ireturn, 1) := dk_172 (dk_at dksX1_outputByte_1 11 rfl rfl)
abbrev cX1_save : ByteArray := prog_1_method_53_code
def yX1_save : MethodName := ⟨RX1, "save", "(I)V"⟩
def dkwX1_save_0 : List UInt8 := [27, 133, 9, 10, 184, 0, 63, 184, 0, 96, 42, 180, 0, 25, 27, 42, 180, 0, 19, 182, 1, 152, 83, 177]
abbrev dktX1_save_0 : List UInt8 := dkwX1_save_0 ++ []
theorem dksX1_save_0 : cX1_save.data.toList.drop 0 = dktX1_save_0 := by decide +kernel
theorem dX1_save_0 : decode cX1_save 0 = .ok (.iload_n 1, 1) := dk_27 (dk_at dksX1_save_0 0 rfl rfl)
theorem dX1_save_1 : decode cX1_save 1 = .ok (.i2l, 1) := dk_133 (dk_at dksX1_save_0 1 rfl rfl)
theorem dX1_save_2 : decode cX1_save 2 = .ok (.lconst 0, 1) := dk_9 (dk_at dksX1_save_0 2 rfl rfl)
theorem dX1_save_3 : decode cX1_save 3 = .ok (.lconst 1, 1) := dk_10 (dk_at dksX1_save_0 3 rfl rfl)
theorem dX1_save_4 : decode cX1_save 4 = .ok (.invokestatic 63, 3) := dk_184 0 63 (dk_at dksX1_save_0 4 rfl rfl)
theorem dX1_save_7 : decode cX1_save 7 = .ok (.invokestatic 96, 3) := dk_184 0 96 (dk_at dksX1_save_0 7 rfl rfl)
theorem dX1_save_10 : decode cX1_save 10 = .ok (.aload_n 0, 1) := dk_42 (dk_at dksX1_save_0 10 rfl rfl)
theorem dX1_save_11 : decode cX1_save 11 = .ok (.getfield 25, 3) := dk_180 0 25 (dk_at dksX1_save_0 11 rfl rfl)
theorem dX1_save_14 : decode cX1_save 14 = .ok (.iload_n 1, 1) := dk_27 (dk_at dksX1_save_0 14 rfl rfl)
theorem dX1_save_15 : decode cX1_save 15 = .ok (.aload_n 0, 1) := dk_42 (dk_at dksX1_save_0 15 rfl rfl)
theorem dX1_save_16 : decode cX1_save 16 = .ok (.getfield 19, 3) := dk_180 0 19 (dk_at dksX1_save_0 16 rfl rfl)
theorem dX1_save_19 : decode cX1_save 19 = .ok (.invokevirtual 408, 3) := dk_182 1 152 (dk_at dksX1_save_0 19 rfl rfl)
theorem dX1_save_22 : decode cX1_save 22 = .ok (.aastore, 1) := dk_83 (dk_at dksX1_save_0 22 rfl rfl)
theorem dX1_save_23 : decode cX1_save 23 = .ok (.return_, 1) := dk_177 (dk_at dksX1_save_0 23 rfl rfl)
abbrev cX1_restore : ByteArray := prog_1_method_54_code
def yX1_restore : MethodName := ⟨RX1, "restore", "(I)V"⟩
def dkwX1_restore_1 : List UInt8 := [184, 0, 93, 42, 42, 180, 0, 25, 27, 50, 182, 1, 152, 181, 0, 19, 42, 1, 181, 0, 44, 177]
abbrev dktX1_restore_1 : List UInt8 := dkwX1_restore_1 ++ []
def dkwX1_restore_0 : List UInt8 := [27, 133, 9, 10, 184, 0, 63, 184, 0, 96, 42, 180, 0, 25, 27, 50, 198, 0, 7, 4, 167, 0, 4, 3]
abbrev dktX1_restore_0 : List UInt8 := dkwX1_restore_0 ++ dktX1_restore_1
theorem dksX1_restore_0 : cX1_restore.data.toList.drop 0 = dktX1_restore_0 := by decide +kernel
theorem dksX1_restore_1 : cX1_restore.data.toList.drop 24 = dktX1_restore_1 := dk_seg dksX1_restore_0 24 rfl rfl
theorem dX1_restore_0 : decode cX1_restore 0 = .ok (.iload_n 1, 1) := dk_27 (dk_at dksX1_restore_0 0 rfl rfl)
theorem dX1_restore_1 : decode cX1_restore 1 = .ok (.i2l, 1) := dk_133 (dk_at dksX1_restore_0 1 rfl rfl)
theorem dX1_restore_2 : decode cX1_restore 2 = .ok (.lconst 0, 1) := dk_9 (dk_at dksX1_restore_0 2 rfl rfl)
theorem dX1_restore_3 : decode cX1_restore 3 = .ok (.lconst 1, 1) := dk_10 (dk_at dksX1_restore_0 3 rfl rfl)
theorem dX1_restore_4 : decode cX1_restore 4 = .ok (.invokestatic 63, 3) := dk_184 0 63 (dk_at dksX1_restore_0 4 rfl rfl)
theorem dX1_restore_7 : decode cX1_restore 7 = .ok (.invokestatic 96, 3) := dk_184 0 96 (dk_at dksX1_restore_0 7 rfl rfl)
theorem dX1_restore_10 : decode cX1_restore 10 = .ok (.aload_n 0, 1) := dk_42 (dk_at dksX1_restore_0 10 rfl rfl)
theorem dX1_restore_11 : decode cX1_restore 11 = .ok (.getfield 25, 3) := dk_180 0 25 (dk_at dksX1_restore_0 11 rfl rfl)
theorem dX1_restore_14 : decode cX1_restore 14 = .ok (.iload_n 1, 1) := dk_27 (dk_at dksX1_restore_0 14 rfl rfl)
theorem dX1_restore_15 : decode cX1_restore 15 = .ok (.aaload, 1) := dk_50 (dk_at dksX1_restore_0 15 rfl rfl)
theorem dX1_restore_16 : decode cX1_restore 16 = .ok (.ifnull 7, 3) := dk_198 0 7 (dk_at dksX1_restore_0 16 rfl rfl)
theorem dX1_restore_19 : decode cX1_restore 19 = .ok (.iconst 1, 1) := dk_4 (dk_at dksX1_restore_0 19 rfl rfl)
theorem dX1_restore_20 : decode cX1_restore 20 = .ok (.goto 4, 3) := dk_167 0 4 (dk_at dksX1_restore_0 20 rfl rfl)
theorem dX1_restore_23 : decode cX1_restore 23 = .ok (.iconst 0, 1) := dk_3 (dk_at dksX1_restore_0 23 rfl rfl)
theorem dX1_restore_24 : decode cX1_restore 24 = .ok (.invokestatic 93, 3) := dk_184 0 93 (dk_at dksX1_restore_1 0 rfl rfl)
theorem dX1_restore_27 : decode cX1_restore 27 = .ok (.aload_n 0, 1) := dk_42 (dk_at dksX1_restore_1 3 rfl rfl)
theorem dX1_restore_28 : decode cX1_restore 28 = .ok (.aload_n 0, 1) := dk_42 (dk_at dksX1_restore_1 4 rfl rfl)
theorem dX1_restore_29 : decode cX1_restore 29 = .ok (.getfield 25, 3) := dk_180 0 25 (dk_at dksX1_restore_1 5 rfl rfl)
theorem dX1_restore_32 : decode cX1_restore 32 = .ok (.iload_n 1, 1) := dk_27 (dk_at dksX1_restore_1 8 rfl rfl)
theorem dX1_restore_33 : decode cX1_restore 33 = .ok (.aaload, 1) := dk_50 (dk_at dksX1_restore_1 9 rfl rfl)
theorem dX1_restore_34 : decode cX1_restore 34 = .ok (.invokevirtual 408, 3) := dk_182 1 152 (dk_at dksX1_restore_1 10 rfl rfl)
theorem dX1_restore_37 : decode cX1_restore 37 = .ok (.putfield 19, 3) := dk_181 0 19 (dk_at dksX1_restore_1 13 rfl rfl)
theorem dX1_restore_40 : decode cX1_restore 40 = .ok (.aload_n 0, 1) := dk_42 (dk_at dksX1_restore_1 16 rfl rfl)
theorem dX1_restore_41 : decode cX1_restore 41 = .ok (.aconst_null, 1) := dk_1 (dk_at dksX1_restore_1 17 rfl rfl)
theorem dX1_restore_42 : decode cX1_restore 42 = .ok (.putfield 44, 3) := dk_181 0 44 (dk_at dksX1_restore_1 18 rfl rfl)
theorem dX1_restore_45 : decode cX1_restore 45 = .ok (.return_, 1) := dk_177 (dk_at dksX1_restore_1 21 rfl rfl)
theorem q120 : (Jvm.Cond.initialized "NoteImporter") ∈ lw_all := lw_g (lw_at lw_m1 1 rfl) rfl
theorem q187 : (Jvm.Cond.instantiable "NoteImporter" (8 : Nat)) ∈ lw_all := lw_g (lw_at lw_m1 68 rfl) rfl
theorem q189 : (Jvm.Cond.instanceMethod ({ cls := "NoteImporter", name := "<init>", desc := "()V" } : Jvm.MethodName)) ∈ lw_all := lw_g (lw_at lw_m1 70 rfl) rfl
theorem q190 : (Jvm.Cond.code ({ cls := "NoteImporter", name := "<init>", desc := "()V" } : Jvm.MethodName) prog_1_method_5_code (1 : Nat) (Option.none : Option Jvm.ClassFile.FieldType)) ∈ lw_all := lw_g (lw_at lw_m1 71 rfl) rfl
theorem q191 : (Jvm.Cond.methodLink "NoteImporter" (13 : Nat) ({ cls := "java/lang/Object", name := "<init>", desc := "()V" } : Jvm.MethodName)) ∈ lw_all := lw_g (lw_at lw_m1 72 rfl) rfl
theorem q194 : (Jvm.Cond.classLink "NoteImporter" (16 : Nat) "NoteImporter$Library") ∈ lw_all := lw_g (lw_at lw_m1 75 rfl) rfl
theorem q196 : (Jvm.Cond.methodLinkNest "NoteImporter" (18 : Nat) ({ cls := "NoteImporter$Library", name := "<init>", desc := "()V" } : Jvm.MethodName) "NoteImporter") ∈ lw_tbl := lw_at lw_m1 77 rfl
theorem q591 : (Jvm.Cond.fieldLinkNest "NoteImporter" (53 : Nat) "NoteImporter$Library" "editions" "Ljava/util/ArrayList;" "NoteImporter") ∈ lw_tbl := lw_at lw_m2 232 rfl
theorem q596 : (Jvm.Cond.fieldLinkNest "NoteImporter" (148 : Nat) "NoteImporter$Library" "notes" "Ljava/util/ArrayList;" "NoteImporter") ∈ lw_tbl := lw_at lw_m2 237 rfl
theorem q599 : (Jvm.Cond.fieldLinkNest "NoteImporter" (145 : Nat) "NoteImporter$Library" "readers" "Ljava/util/ArrayList;" "NoteImporter") ∈ lw_tbl := lw_at lw_m3 0 rfl
theorem q602 : (Jvm.Cond.fieldLinkNest "NoteImporter" (276 : Nat) "NoteImporter$Library" "numbers" "Ljava/util/HashMap;" "NoteImporter") ∈ lw_tbl := lw_at lw_m3 3 rfl
theorem q605 : (Jvm.Cond.fieldLinkNest "NoteImporter" (165 : Nat) "NoteImporter$Library" "target" "I" "NoteImporter") ∈ lw_tbl := lw_at lw_m3 6 rfl
theorem q608 : (Jvm.Cond.fieldLinkNest "NoteImporter" (162 : Nat) "NoteImporter$Library" "threshold" "I" "NoteImporter") ∈ lw_tbl := lw_at lw_m3 9 rfl
theorem q623 : (Jvm.Cond.classLink "NoteImporter" (33 : Nat) "java/lang/StringBuilder") ∈ lw_all := lw_g (lw_at lw_m3 24 rfl) rfl
theorem q624 : (Jvm.Cond.methodLink "NoteImporter" (35 : Nat) ({ cls := "java/lang/StringBuilder", name := "<init>", desc := "()V" } : Jvm.MethodName)) ∈ lw_all := lw_g (lw_at lw_m3 25 rfl) rfl
theorem q625 : (Jvm.Cond.fieldLink "NoteImporter" (19 : Nat) "NoteImporter" "now" "LNoteImporter$Library;") ∈ lw_all := lw_g (lw_at lw_m3 26 rfl) rfl
theorem q626 : (Jvm.Cond.fieldLink "NoteImporter" (44 : Nat) "NoteImporter" "seen" "LNoteImporter$View;") ∈ lw_all := lw_g (lw_at lw_m3 27 rfl) rfl
theorem q627 : (Jvm.Cond.fieldLink "NoteImporter" (25 : Nat) "NoteImporter" "saved" "[LNoteImporter$Library;") ∈ lw_all := lw_g (lw_at lw_m3 28 rfl) rfl
theorem q629 : (Jvm.Cond.fieldLink "NoteImporter" (29 : Nat) "NoteImporter" "text" "[B") ∈ lw_all := lw_g (lw_at lw_m3 30 rfl) rfl
theorem q630 : (Jvm.Cond.fieldLink "NoteImporter" (90 : Nat) "NoteImporter" "textLength" "I") ∈ lw_all := lw_g (lw_at lw_m3 31 rfl) rfl
theorem q631 : (Jvm.Cond.fieldLink "NoteImporter" (36 : Nat) "NoteImporter" "output" "Ljava/lang/StringBuilder;") ∈ lw_all := lw_g (lw_at lw_m3 32 rfl) rfl
theorem q632 : (Jvm.Cond.fieldLink "NoteImporter" (415 : Nat) "NoteImporter" "errorCode" "I") ∈ lw_all := lw_g (lw_at lw_m3 33 rfl) rfl
theorem q633 : (Jvm.Cond.fieldLink "NoteImporter" (40 : Nat) "NoteImporter" "errorPosition" "I") ∈ lw_all := lw_g (lw_at lw_m3 34 rfl) rfl
theorem q634 : (Jvm.Cond.lays "NoteImporter" "NoteImporter" "now" "LNoteImporter$Library;") ∈ lw_all := lw_g (lw_at lw_m3 35 rfl) rfl
theorem q635 : (Jvm.Cond.soleField "NoteImporter" "now") ∈ lw_all := lw_g (lw_at lw_m3 36 rfl) rfl
theorem q636 : (Jvm.Cond.lays "NoteImporter" "NoteImporter" "seen" "LNoteImporter$View;") ∈ lw_all := lw_g (lw_at lw_m3 37 rfl) rfl
theorem q637 : (Jvm.Cond.soleField "NoteImporter" "seen") ∈ lw_all := lw_g (lw_at lw_m3 38 rfl) rfl
theorem q638 : (Jvm.Cond.laysFinal "NoteImporter" "NoteImporter" "saved" "[LNoteImporter$Library;") ∈ lw_all := lw_g (lw_at lw_m3 39 rfl) rfl
theorem q639 : (Jvm.Cond.soleField "NoteImporter" "saved") ∈ lw_all := lw_g (lw_at lw_m3 40 rfl) rfl
theorem q640 : (Jvm.Cond.laysFinal "NoteImporter" "NoteImporter" "text" "[B") ∈ lw_all := lw_g (lw_at lw_m3 41 rfl) rfl
theorem q641 : (Jvm.Cond.soleField "NoteImporter" "text") ∈ lw_all := lw_g (lw_at lw_m3 42 rfl) rfl
theorem q642 : (Jvm.Cond.lays "NoteImporter" "NoteImporter" "textLength" "I") ∈ lw_all := lw_g (lw_at lw_m3 43 rfl) rfl
theorem q643 : (Jvm.Cond.soleField "NoteImporter" "textLength") ∈ lw_all := lw_g (lw_at lw_m3 44 rfl) rfl
theorem q644 : (Jvm.Cond.laysFinal "NoteImporter" "NoteImporter" "output" "Ljava/lang/StringBuilder;") ∈ lw_all := lw_g (lw_at lw_m3 45 rfl) rfl
theorem q645 : (Jvm.Cond.soleField "NoteImporter" "output") ∈ lw_all := lw_g (lw_at lw_m3 46 rfl) rfl
theorem q646 : (Jvm.Cond.lays "NoteImporter" "NoteImporter" "errorCode" "I") ∈ lw_all := lw_g (lw_at lw_m3 47 rfl) rfl
theorem q647 : (Jvm.Cond.soleField "NoteImporter" "errorCode") ∈ lw_all := lw_g (lw_at lw_m3 48 rfl) rfl
theorem q648 : (Jvm.Cond.lays "NoteImporter" "NoteImporter" "errorPosition" "I") ∈ lw_all := lw_g (lw_at lw_m3 49 rfl) rfl
theorem q649 : (Jvm.Cond.soleField "NoteImporter" "errorPosition") ∈ lw_all := lw_g (lw_at lw_m3 50 rfl) rfl
theorem q650 : (Jvm.Cond.superclass "NoteImporter" "java/lang/Object") ∈ lw_all := lw_g (lw_at lw_m3 51 rfl) rfl
theorem q652 : (Jvm.Cond.instanceMethod ({ cls := "NoteImporter", name := "strongestGroup", desc := "()I" } : Jvm.MethodName)) ∈ lw_all := lw_g (lw_at lw_m3 53 rfl) rfl
theorem q653 : (Jvm.Cond.selects "NoteImporter" ({ cls := "NoteImporter", name := "strongestGroup", desc := "()I" } : Jvm.MethodName) ({ cls := "NoteImporter", name := "strongestGroup", desc := "()I" } : Jvm.MethodName)) ∈ lw_all := lw_g (lw_at lw_m3 54 rfl) rfl
theorem q654 : (Jvm.Cond.code ({ cls := "NoteImporter", name := "strongestGroup", desc := "()I" } : Jvm.MethodName) prog_1_method_41_code (5 : Nat) (Option.some Jvm.ClassFile.FieldType.int)) ∈ lw_all := lw_g (lw_at lw_m3 55 rfl) rfl
theorem q655 : (Jvm.Cond.methodLink "NoteImporter" (151 : Nat) ({ cls := "java/util/ArrayList", name := "isEmpty", desc := "()Z" } : Jvm.MethodName)) ∈ lw_all := lw_g (lw_at lw_m3 56 rfl) rfl
theorem q659 : (Jvm.Cond.methodLink "NoteImporter" (155 : Nat) ({ cls := "NoteImporter", name := "view", desc := "()LNoteImporter$View;" } : Jvm.MethodName)) ∈ lw_all := lw_g (lw_at lw_m3 60 rfl) rfl
theorem q660 : (Jvm.Cond.privateMethod ({ cls := "NoteImporter", name := "view", desc := "()LNoteImporter$View;" } : Jvm.MethodName)) ∈ lw_tbl := lw_at lw_m3 61 rfl
theorem q661 : (Jvm.Cond.instanceMethod ({ cls := "NoteImporter", name := "view", desc := "()LNoteImporter$View;" } : Jvm.MethodName)) ∈ lw_all := lw_g (lw_at lw_m3 62 rfl) rfl
theorem q662 : (Jvm.Cond.code ({ cls := "NoteImporter", name := "view", desc := "()LNoteImporter$View;" } : Jvm.MethodName) prog_1_method_6_code (1 : Nat) (Option.some (Jvm.ClassFile.FieldType.object "NoteImporter$View"))) ∈ lw_all := lw_g (lw_at lw_m3 63 rfl) rfl
theorem q663 : (Jvm.Cond.classLink "NoteImporter" (48 : Nat) "NoteImporter$View") ∈ lw_all := lw_g (lw_at lw_m3 64 rfl) rfl
theorem q665 : (Jvm.Cond.methodLink "NoteImporter" (50 : Nat) ({ cls := "NoteImporter$View", name := "<init>", desc := "(LNoteImporter$Library;)V" } : Jvm.MethodName)) ∈ lw_all := lw_g (lw_at lw_m3 66 rfl) rfl
theorem q727 : (Jvm.Cond.fieldLinkNest "NoteImporter" (316 : Nat) "NoteImporter$Alignment" "partners" "[I" "NoteImporter") ∈ lw_tbl := lw_at lw_m3 128 rfl
theorem q759 : (Jvm.Cond.fieldLinkNest "NoteImporter" (328 : Nat) "NoteImporter$Anchor" "state" "I" "NoteImporter") ∈ lw_tbl := lw_at lw_m3 160 rfl
theorem q762 : (Jvm.Cond.fieldLinkNest "NoteImporter" (333 : Nat) "NoteImporter$Anchor" "first" "I" "NoteImporter") ∈ lw_tbl := lw_at lw_m3 163 rfl
theorem q765 : (Jvm.Cond.fieldLinkNest "NoteImporter" (334 : Nat) "NoteImporter$Anchor" "last" "I" "NoteImporter") ∈ lw_tbl := lw_at lw_m3 166 rfl
theorem q767 : (Jvm.Cond.fieldLinkNest "NoteImporter" (335 : Nat) "NoteImporter$Anchor" "matched" "I" "NoteImporter") ∈ lw_tbl := lw_at lw_m3 168 rfl
theorem q792 : (Jvm.Cond.fieldLinkNest "NoteImporter" (367 : Nat) "NoteImporter$Group" "number" "I" "NoteImporter") ∈ lw_tbl := lw_at lw_m3 193 rfl
theorem q794 : (Jvm.Cond.fieldLinkNest "NoteImporter" (352 : Nat) "NoteImporter$Group" "notes" "Ljava/util/ArrayList;" "NoteImporter") ∈ lw_tbl := lw_at lw_m3 195 rfl
theorem q796 : (Jvm.Cond.fieldLinkNest "NoteImporter" (358 : Nat) "NoteImporter$Group" "readers" "I" "NoteImporter") ∈ lw_tbl := lw_at lw_m3 197 rfl
theorem q800 : (Jvm.Cond.fieldLinkNest "NoteImporter" (360 : Nat) "NoteImporter$Group" "first" "I" "NoteImporter") ∈ lw_tbl := lw_at lw_m3 201 rfl
theorem q802 : (Jvm.Cond.fieldLinkNest "NoteImporter" (361 : Nat) "NoteImporter$Group" "last" "I" "NoteImporter") ∈ lw_tbl := lw_at lw_m3 203 rfl
theorem q805 : (Jvm.Cond.fieldLinkNest "NoteImporter" (362 : Nat) "NoteImporter$Group" "text" "I" "NoteImporter") ∈ lw_tbl := lw_at lw_m3 206 rfl
theorem q844 : (Jvm.Cond.selects "NoteImporter" ({ cls := "java/lang/Object", name := "getClass", desc := "()Ljava/lang/Class;" } : Jvm.MethodName) ({ cls := "java/lang/Object", name := "getClass", desc := "()Ljava/lang/Class;" } : Jvm.MethodName)) ∈ lw_all := lw_g (lw_at lw_m4 5 rfl) rfl
theorem q1179 : (Jvm.Cond.selects "NoteImporter" ({ cls := "java/lang/Object", name := "hashCode", desc := "()I" } : Jvm.MethodName) ({ cls := "java/lang/Object", name := "hashCode", desc := "()I" } : Jvm.MethodName)) ∈ lw_all := lw_g (lw_at lw_m5 100 rfl) rfl
theorem q1284 : (Jvm.Cond.selects "NoteImporter" ({ cls := "java/lang/Object", name := "equals", desc := "(Ljava/lang/Object;)Z" } : Jvm.MethodName) ({ cls := "java/lang/Object", name := "equals", desc := "(Ljava/lang/Object;)Z" } : Jvm.MethodName)) ∈ lw_all := lw_g (lw_at lw_m5 205 rfl) rfl
theorem q1595 : (Jvm.Cond.fieldLinkNest "NoteImporter" (312 : Nat) "NoteImporter$View" "alignments" "[LNoteImporter$Alignment;" "NoteImporter") ∈ lw_tbl := lw_at lw_m7 36 rfl
theorem q1597 : (Jvm.Cond.fieldLinkNest "NoteImporter" (324 : Nat) "NoteImporter$View" "anchors" "[LNoteImporter$Anchor;" "NoteImporter") ∈ lw_tbl := lw_at lw_m7 38 rfl
theorem q1599 : (Jvm.Cond.fieldLinkNest "NoteImporter" (343 : Nat) "NoteImporter$View" "groupOf" "[I" "NoteImporter") ∈ lw_tbl := lw_at lw_m7 40 rfl
theorem q1601 : (Jvm.Cond.fieldLinkNest "NoteImporter" (159 : Nat) "NoteImporter$View" "groups" "Ljava/util/ArrayList;" "NoteImporter") ∈ lw_tbl := lw_at lw_m7 42 rfl
theorem q1613 : (Jvm.Cond.methodLink "NoteImporter" (71 : Nat) ({ cls := "java/util/ArrayList", name := "get", desc := "(I)Ljava/lang/Object;" } : Jvm.MethodName)) ∈ lw_all := lw_g (lw_at lw_m7 54 rfl) rfl
theorem q1614 : (Jvm.Cond.classLink "NoteImporter" (346 : Nat) "NoteImporter$Group") ∈ lw_all := lw_g (lw_at lw_m7 55 rfl) rfl
theorem q1615 : (Jvm.Cond.methodLink "NoteImporter" (175 : Nat) ({ cls := "java/util/ArrayList", name := "iterator", desc := "()Ljava/util/Iterator;" } : Jvm.MethodName)) ∈ lw_all := lw_g (lw_at lw_m7 56 rfl) rfl
theorem q1638 : (Jvm.Cond.interfaceEntry "NoteImporter" (179 : Nat)) ∈ lw_tbl := lw_at lw_m7 79 rfl
theorem q1639 : (Jvm.Cond.methodLink "NoteImporter" (179 : Nat) ({ cls := "java/util/Iterator", name := "hasNext", desc := "()Z" } : Jvm.MethodName)) ∈ lw_all := lw_g (lw_at lw_m7 80 rfl) rfl
theorem q1640 : (Jvm.Cond.interfaceEntry "NoteImporter" (184 : Nat)) ∈ lw_tbl := lw_at lw_m7 81 rfl
theorem q1641 : (Jvm.Cond.methodLink "NoteImporter" (184 : Nat) ({ cls := "java/util/Iterator", name := "next", desc := "()Ljava/lang/Object;" } : Jvm.MethodName)) ∈ lw_all := lw_g (lw_at lw_m7 82 rfl) rfl
theorem q1642 : (Jvm.Cond.methodLink "NoteImporter" (364 : Nat) ({ cls := "NoteImporter$Group", name := "readerCount", desc := "()I" } : Jvm.MethodName)) ∈ lw_all := lw_g (lw_at lw_m7 83 rfl) rfl
theorem q1646 : (Jvm.Cond.methodLink "NoteImporter" (57 : Nat) ({ cls := "java/util/ArrayList", name := "size", desc := "()I" } : Jvm.MethodName)) ∈ lw_all := lw_g (lw_at lw_m7 87 rfl) rfl
theorem q1648 : (Jvm.Cond.instanceMethod ({ cls := "NoteImporter", name := "hottestPage", desc := "()I" } : Jvm.MethodName)) ∈ lw_all := lw_g (lw_at lw_m7 89 rfl) rfl
theorem q1649 : (Jvm.Cond.selects "NoteImporter" ({ cls := "NoteImporter", name := "hottestPage", desc := "()I" } : Jvm.MethodName) ({ cls := "NoteImporter", name := "hottestPage", desc := "()I" } : Jvm.MethodName)) ∈ lw_all := lw_g (lw_at lw_m7 90 rfl) rfl
theorem q1650 : (Jvm.Cond.code ({ cls := "NoteImporter", name := "hottestPage", desc := "()I" } : Jvm.MethodName) prog_1_method_43_code (5 : Nat) (Option.some Jvm.ClassFile.FieldType.int)) ∈ lw_all := lw_g (lw_at lw_m7 91 rfl) rfl
theorem q1651 : (Jvm.Cond.methodLink "NoteImporter" (370 : Nat) ({ cls := "NoteImporter$Library", name := "aim", desc := "()LNoteImporter$Edition;" } : Jvm.MethodName)) ∈ lw_all := lw_g (lw_at lw_m7 92 rfl) rfl
theorem q1652 : (Jvm.Cond.methodLink "NoteImporter" (208 : Nat) ({ cls := "NoteImporter$Edition", name := "pageCount", desc := "()I" } : Jvm.MethodName)) ∈ lw_all := lw_g (lw_at lw_m7 93 rfl) rfl
theorem q1664 : (Jvm.Cond.methodLink "NoteImporter" (188 : Nat) ({ cls := "NoteImporter$Edition", name := "size", desc := "()I" } : Jvm.MethodName)) ∈ lw_all := lw_g (lw_at lw_m7 105 rfl) rfl
theorem q1665 : (Jvm.Cond.methodLink "NoteImporter" (220 : Nat) ({ cls := "NoteImporter$Edition", name := "page", desc := "(I)I" } : Jvm.MethodName)) ∈ lw_all := lw_g (lw_at lw_m7 106 rfl) rfl
theorem q1669 : (Jvm.Cond.methodLink "NoteImporter" (374 : Nat) ({ cls := "NoteImporter$View", name := "heat", desc := "(I)I" } : Jvm.MethodName)) ∈ lw_all := lw_g (lw_at lw_m7 110 rfl) rfl
theorem q1678 : (Jvm.Cond.static ({ cls := "NoteImporter", name := "isBetween", desc := "(JJJ)Z" } : Jvm.MethodName)) ∈ lw_all := lw_g (lw_at lw_m7 119 rfl) rfl
theorem q1679 : (Jvm.Cond.code ({ cls := "NoteImporter", name := "isBetween", desc := "(JJJ)Z" } : Jvm.MethodName) prog_1_method_1_code (6 : Nat) (Option.some Jvm.ClassFile.FieldType.boolean)) ∈ lw_all := lw_g (lw_at lw_m7 120 rfl) rfl
theorem q1681 : (Jvm.Cond.instanceMethod ({ cls := "NoteImporter", name := "overflows", desc := "()I" } : Jvm.MethodName)) ∈ lw_all := lw_g (lw_at lw_m7 122 rfl) rfl
theorem q1682 : (Jvm.Cond.selects "NoteImporter" ({ cls := "NoteImporter", name := "overflows", desc := "()I" } : Jvm.MethodName) ({ cls := "NoteImporter", name := "overflows", desc := "()I" } : Jvm.MethodName)) ∈ lw_all := lw_g (lw_at lw_m7 123 rfl) rfl
theorem q1683 : (Jvm.Cond.code ({ cls := "NoteImporter", name := "overflows", desc := "()I" } : Jvm.MethodName) prog_1_method_47_code (3 : Nat) (Option.some Jvm.ClassFile.FieldType.int)) ∈ lw_all := lw_g (lw_at lw_m7 124 rfl) rfl
theorem q1684 : (Jvm.Cond.methodLink "NoteImporter" (383 : Nat) ({ cls := "NoteImporter$View", name := "margin", desc := "(I)[I" } : Jvm.MethodName)) ∈ lw_all := lw_g (lw_at lw_m7 125 rfl) rfl
theorem q1832 : (Jvm.Cond.instanceMethod ({ cls := "NoteImporter", name := "importText", desc := "()I" } : Jvm.MethodName)) ∈ lw_all := lw_g (lw_at lw_m8 33 rfl) rfl
theorem q1833 : (Jvm.Cond.selects "NoteImporter" ({ cls := "NoteImporter", name := "importText", desc := "()I" } : Jvm.MethodName) ({ cls := "NoteImporter", name := "importText", desc := "()I" } : Jvm.MethodName)) ∈ lw_all := lw_g (lw_at lw_m8 34 rfl) rfl
theorem q1834 : (Jvm.Cond.codeWith ({ cls := "NoteImporter", name := "importText", desc := "()I" } : Jvm.MethodName) prog_1_method_50_code (3 : Nat) (Option.some Jvm.ClassFile.FieldType.int) [((35 : Nat), (54 : Nat), (55 : Nat), (424 : Nat))]) ∈ lw_all := lw_g (lw_at lw_m8 35 rfl) rfl
theorem q1835 : (Jvm.Cond.classLink "NoteImporter" (424 : Nat) "NoteImporter$ImportException") ∈ lw_all := lw_g (lw_at lw_m8 36 rfl) rfl
theorem q1836 : (Jvm.Cond.classLink "NoteImporter" (406 : Nat) "NoteImporter$Parser") ∈ lw_all := lw_g (lw_at lw_m8 37 rfl) rfl
theorem q1838 : (Jvm.Cond.methodLink "NoteImporter" (408 : Nat) ({ cls := "NoteImporter$Library", name := "copy", desc := "()LNoteImporter$Library;" } : Jvm.MethodName)) ∈ lw_all := lw_g (lw_at lw_m8 39 rfl) rfl
theorem q1863 : (Jvm.Cond.fieldLinkNest "NoteImporter" (234 : Nat) "NoteImporter$Edition" "words" "Ljava/util/ArrayList;" "NoteImporter") ∈ lw_tbl := lw_at lw_m8 64 rfl
theorem q1865 : (Jvm.Cond.fieldLinkNest "NoteImporter" (237 : Nat) "NoteImporter$Edition" "begins" "Ljava/util/ArrayList;" "NoteImporter") ∈ lw_tbl := lw_at lw_m8 66 rfl
theorem q1867 : (Jvm.Cond.fieldLinkNest "NoteImporter" (199 : Nat) "NoteImporter$Edition" "width" "I" "NoteImporter") ∈ lw_tbl := lw_at lw_m8 68 rfl
theorem q1870 : (Jvm.Cond.fieldLinkNest "NoteImporter" (202 : Nat) "NoteImporter$Edition" "lines" "I" "NoteImporter") ∈ lw_tbl := lw_at lw_m8 71 rfl
theorem q1874 : (Jvm.Cond.fieldLinkNest "NoteImporter" (224 : Nat) "NoteImporter$Edition" "lineOf" "[I" "NoteImporter") ∈ lw_tbl := lw_at lw_m8 75 rfl
theorem q1876 : (Jvm.Cond.fieldLinkNest "NoteImporter" (228 : Nat) "NoteImporter$Edition" "columnOf" "[I" "NoteImporter") ∈ lw_tbl := lw_at lw_m8 77 rfl
theorem q1878 : (Jvm.Cond.fieldLinkNest "NoteImporter" (231 : Nat) "NoteImporter$Edition" "indexOf" "[I" "NoteImporter") ∈ lw_tbl := lw_at lw_m8 79 rfl
theorem q2296 : (Jvm.Cond.fieldLinkNest "NoteImporter" (298 : Nat) "NoteImporter$Note" "reader" "I" "NoteImporter") ∈ lw_tbl := lw_at lw_m10 17 rfl
theorem q2299 : (Jvm.Cond.fieldLinkNest "NoteImporter" (301 : Nat) "NoteImporter$Note" "kind" "I" "NoteImporter") ∈ lw_tbl := lw_at lw_m10 20 rfl
theorem q2302 : (Jvm.Cond.fieldLinkNest "NoteImporter" (265 : Nat) "NoteImporter$Note" "edition" "I" "NoteImporter") ∈ lw_tbl := lw_at lw_m10 23 rfl
theorem q2306 : (Jvm.Cond.fieldLinkNest "NoteImporter" (309 : Nat) "NoteImporter$Note" "said" "Ljava/util/ArrayList;" "NoteImporter") ∈ lw_tbl := lw_at lw_m10 27 rfl
theorem q2311 : (Jvm.Cond.fieldLinkNest "NoteImporter" (304 : Nat) "NoteImporter$Note" "first" "I" "NoteImporter") ∈ lw_tbl := lw_at lw_m10 32 rfl
theorem q2314 : (Jvm.Cond.fieldLinkNest "NoteImporter" (307 : Nat) "NoteImporter$Note" "last" "I" "NoteImporter") ∈ lw_tbl := lw_at lw_m10 35 rfl
theorem q2338 : (Jvm.Cond.methodLink "NoteImporter" (412 : Nat) ({ cls := "NoteImporter$Parser", name := "<init>", desc := "(LNoteImporter;ILNoteImporter$Library;)V" } : Jvm.MethodName)) ∈ lw_all := lw_g (lw_at lw_m10 59 rfl) rfl
theorem q2352 : (Jvm.Cond.static ({ cls := "NoteImporter", name := "isBlank", desc := "(I)Z" } : Jvm.MethodName)) ∈ lw_all := lw_g (lw_at lw_m10 73 rfl) rfl
theorem q2353 : (Jvm.Cond.code ({ cls := "NoteImporter", name := "isBlank", desc := "(I)Z" } : Jvm.MethodName) prog_1_method_12_code (1 : Nat) (Option.some Jvm.ClassFile.FieldType.boolean)) ∈ lw_all := lw_g (lw_at lw_m10 74 rfl) rfl
theorem q2386 : (Jvm.Cond.fieldLinkNest "NoteImporter" (421 : Nat) "NoteImporter$Parser" "made" "LNoteImporter$Library;" "NoteImporter") ∈ lw_tbl := lw_at lw_m10 107 rfl
theorem q2413 : (Jvm.Cond.methodLink "NoteImporter" (418 : Nat) ({ cls := "NoteImporter$Parser", name := "records", desc := "()I" } : Jvm.MethodName)) ∈ lw_all := lw_g (lw_at lw_m10 134 rfl) rfl
theorem q2451 : (Jvm.Cond.fieldLinkNest "NoteImporter" (426 : Nat) "NoteImporter$ImportException" "code" "I" "NoteImporter") ∈ lw_tbl := lw_at lw_m10 172 rfl
theorem q2453 : (Jvm.Cond.fieldLinkNest "NoteImporter" (429 : Nat) "NoteImporter$ImportException" "position" "I" "NoteImporter") ∈ lw_tbl := lw_at lw_m10 174 rfl
theorem q2589 : (Jvm.Cond.instanceMethod ({ cls := "NoteImporter", name := "errorCode", desc := "()I" } : Jvm.MethodName)) ∈ lw_all := lw_g (lw_at lw_m11 70 rfl) rfl
theorem q2590 : (Jvm.Cond.selects "NoteImporter" ({ cls := "NoteImporter", name := "errorCode", desc := "()I" } : Jvm.MethodName) ({ cls := "NoteImporter", name := "errorCode", desc := "()I" } : Jvm.MethodName)) ∈ lw_all := lw_g (lw_at lw_m11 71 rfl) rfl
theorem q2591 : (Jvm.Cond.code ({ cls := "NoteImporter", name := "errorCode", desc := "()I" } : Jvm.MethodName) prog_1_method_51_code (1 : Nat) (Option.some Jvm.ClassFile.FieldType.int)) ∈ lw_all := lw_g (lw_at lw_m11 72 rfl) rfl
theorem q2593 : (Jvm.Cond.instanceMethod ({ cls := "NoteImporter", name := "errorPosition", desc := "()I" } : Jvm.MethodName)) ∈ lw_all := lw_g (lw_at lw_m11 74 rfl) rfl
theorem q2594 : (Jvm.Cond.selects "NoteImporter" ({ cls := "NoteImporter", name := "errorPosition", desc := "()I" } : Jvm.MethodName) ({ cls := "NoteImporter", name := "errorPosition", desc := "()I" } : Jvm.MethodName)) ∈ lw_all := lw_g (lw_at lw_m11 75 rfl) rfl
theorem q2595 : (Jvm.Cond.code ({ cls := "NoteImporter", name := "errorPosition", desc := "()I" } : Jvm.MethodName) prog_1_method_52_code (1 : Nat) (Option.some Jvm.ClassFile.FieldType.int)) ∈ lw_all := lw_g (lw_at lw_m11 76 rfl) rfl
theorem q2601 : (Jvm.Cond.instanceMethod ({ cls := "NoteImporter", name := "appendText", desc := "(I)I" } : Jvm.MethodName)) ∈ lw_all := lw_g (lw_at lw_m11 82 rfl) rfl
theorem q2602 : (Jvm.Cond.selects "NoteImporter" ({ cls := "NoteImporter", name := "appendText", desc := "(I)I" } : Jvm.MethodName) ({ cls := "NoteImporter", name := "appendText", desc := "(I)I" } : Jvm.MethodName)) ∈ lw_all := lw_g (lw_at lw_m11 83 rfl) rfl
theorem q2603 : (Jvm.Cond.code ({ cls := "NoteImporter", name := "appendText", desc := "(I)I" } : Jvm.MethodName) prog_1_method_10_code (3 : Nat) (Option.some Jvm.ClassFile.FieldType.int)) ∈ lw_all := lw_g (lw_at lw_m11 84 rfl) rfl
theorem q2604 : (Jvm.Cond.methodLink "NoteImporter" (93 : Nat) ({ cls := "NoteImporter", name := "checkState", desc := "(Z)V" } : Jvm.MethodName)) ∈ lw_all := lw_g (lw_at lw_m11 85 rfl) rfl
theorem q2605 : (Jvm.Cond.static ({ cls := "NoteImporter", name := "checkState", desc := "(Z)V" } : Jvm.MethodName)) ∈ lw_all := lw_g (lw_at lw_m11 86 rfl) rfl
theorem q2606 : (Jvm.Cond.code ({ cls := "NoteImporter", name := "checkState", desc := "(Z)V" } : Jvm.MethodName) prog_1_method_4_code (1 : Nat) (Option.none : Option Jvm.ClassFile.FieldType)) ∈ lw_all := lw_g (lw_at lw_m11 87 rfl) rfl
theorem q2607 : (Jvm.Cond.classLink "NoteImporter" (10 : Nat) "java/lang/IllegalStateException") ∈ lw_all := lw_g (lw_at lw_m11 88 rfl) rfl
theorem q2616 : (Jvm.Cond.methodLink "NoteImporter" (12 : Nat) ({ cls := "java/lang/IllegalStateException", name := "<init>", desc := "()V" } : Jvm.MethodName)) ∈ lw_all := lw_g (lw_at lw_m11 97 rfl) rfl
theorem q2627 : (Jvm.Cond.instanceMethod ({ cls := "NoteImporter", name := "truncateText", desc := "(I)I" } : Jvm.MethodName)) ∈ lw_all := lw_g (lw_at lw_m11 108 rfl) rfl
theorem q2628 : (Jvm.Cond.selects "NoteImporter" ({ cls := "NoteImporter", name := "truncateText", desc := "(I)I" } : Jvm.MethodName) ({ cls := "NoteImporter", name := "truncateText", desc := "(I)I" } : Jvm.MethodName)) ∈ lw_all := lw_g (lw_at lw_m11 109 rfl) rfl
theorem q2629 : (Jvm.Cond.code ({ cls := "NoteImporter", name := "truncateText", desc := "(I)I" } : Jvm.MethodName) prog_1_method_11_code (2 : Nat) (Option.some Jvm.ClassFile.FieldType.int)) ∈ lw_all := lw_g (lw_at lw_m11 110 rfl) rfl
theorem q2630 : (Jvm.Cond.methodLink "NoteImporter" (63 : Nat) ({ cls := "NoteImporter", name := "isBetween", desc := "(JJJ)Z" } : Jvm.MethodName)) ∈ lw_all := lw_g (lw_at lw_m11 111 rfl) rfl
theorem q2631 : (Jvm.Cond.methodLink "NoteImporter" (96 : Nat) ({ cls := "NoteImporter", name := "checkArgument", desc := "(Z)V" } : Jvm.MethodName)) ∈ lw_all := lw_g (lw_at lw_m11 112 rfl) rfl
theorem q2632 : (Jvm.Cond.static ({ cls := "NoteImporter", name := "checkArgument", desc := "(Z)V" } : Jvm.MethodName)) ∈ lw_all := lw_g (lw_at lw_m11 113 rfl) rfl
theorem q2633 : (Jvm.Cond.code ({ cls := "NoteImporter", name := "checkArgument", desc := "(Z)V" } : Jvm.MethodName) prog_1_method_3_code (1 : Nat) (Option.none : Option Jvm.ClassFile.FieldType)) ∈ lw_all := lw_g (lw_at lw_m11 114 rfl) rfl
theorem q2634 : (Jvm.Cond.classLink "NoteImporter" (7 : Nat) "java/lang/IllegalArgumentException") ∈ lw_all := lw_g (lw_at lw_m11 115 rfl) rfl
theorem q2635 : (Jvm.Cond.methodLink "NoteImporter" (9 : Nat) ({ cls := "java/lang/IllegalArgumentException", name := "<init>", desc := "()V" } : Jvm.MethodName)) ∈ lw_all := lw_g (lw_at lw_m11 116 rfl) rfl
theorem q2640 : (Jvm.Cond.instanceMethod ({ cls := "NoteImporter", name := "count", desc := "(I)I" } : Jvm.MethodName)) ∈ lw_all := lw_g (lw_at lw_m11 121 rfl) rfl
theorem q2641 : (Jvm.Cond.selects "NoteImporter" ({ cls := "NoteImporter", name := "count", desc := "(I)I" } : Jvm.MethodName) ({ cls := "NoteImporter", name := "count", desc := "(I)I" } : Jvm.MethodName)) ∈ lw_all := lw_g (lw_at lw_m11 122 rfl) rfl
theorem q2642 : (Jvm.Cond.code ({ cls := "NoteImporter", name := "count", desc := "(I)I" } : Jvm.MethodName) prog_1_method_17_code (2 : Nat) (Option.some Jvm.ClassFile.FieldType.int)) ∈ lw_all := lw_g (lw_at lw_m11 123 rfl) rfl
theorem q2643 : (Jvm.Cond.constantLong "NoteImporter" (143 : Nat) (5 : Int64)) ∈ lw_all := lw_g (lw_at lw_m11 124 rfl) rfl
theorem q2648 : (Jvm.Cond.instanceMethod ({ cls := "NoteImporter", name := "addEdition", desc := "(II)I" } : Jvm.MethodName)) ∈ lw_all := lw_g (lw_at lw_m11 129 rfl) rfl
theorem q2649 : (Jvm.Cond.selects "NoteImporter" ({ cls := "NoteImporter", name := "addEdition", desc := "(II)I" } : Jvm.MethodName) ({ cls := "NoteImporter", name := "addEdition", desc := "(II)I" } : Jvm.MethodName)) ∈ lw_all := lw_g (lw_at lw_m11 130 rfl) rfl
theorem q2650 : (Jvm.Cond.code ({ cls := "NoteImporter", name := "addEdition", desc := "(II)I" } : Jvm.MethodName) prog_1_method_18_code (7 : Nat) (Option.some Jvm.ClassFile.FieldType.int)) ∈ lw_all := lw_g (lw_at lw_m11 131 rfl) rfl
theorem q2651 : (Jvm.Cond.methodLink "NoteImporter" (168 : Nat) ({ cls := "NoteImporter", name := "isLayout", desc := "(II)Z" } : Jvm.MethodName)) ∈ lw_all := lw_g (lw_at lw_m11 132 rfl) rfl
theorem q2652 : (Jvm.Cond.static ({ cls := "NoteImporter", name := "isLayout", desc := "(II)Z" } : Jvm.MethodName)) ∈ lw_all := lw_g (lw_at lw_m11 133 rfl) rfl
theorem q2653 : (Jvm.Cond.code ({ cls := "NoteImporter", name := "isLayout", desc := "(II)Z" } : Jvm.MethodName) prog_1_method_9_code (2 : Nat) (Option.some Jvm.ClassFile.FieldType.boolean)) ∈ lw_all := lw_g (lw_at lw_m11 134 rfl) rfl
theorem q2654 : (Jvm.Cond.constantLong "NoteImporter" (84 : Nat) (8 : Int64)) ∈ lw_all := lw_g (lw_at lw_m11 135 rfl) rfl
theorem q2655 : (Jvm.Cond.constantLong "NoteImporter" (86 : Nat) (60 : Int64)) ∈ lw_all := lw_g (lw_at lw_m11 136 rfl) rfl
theorem q2656 : (Jvm.Cond.constantLong "NoteImporter" (88 : Nat) (40 : Int64)) ∈ lw_all := lw_g (lw_at lw_m11 137 rfl) rfl
theorem q2657 : (Jvm.Cond.methodLink "NoteImporter" (138 : Nat) ({ cls := "NoteImporter", name := "words", desc := "(II)Ljava/util/ArrayList;" } : Jvm.MethodName)) ∈ lw_all := lw_g (lw_at lw_m11 138 rfl) rfl
theorem q2658 : (Jvm.Cond.privateMethod ({ cls := "NoteImporter", name := "words", desc := "(II)Ljava/util/ArrayList;" } : Jvm.MethodName)) ∈ lw_tbl := lw_at lw_m11 139 rfl
theorem q2659 : (Jvm.Cond.instanceMethod ({ cls := "NoteImporter", name := "words", desc := "(II)Ljava/util/ArrayList;" } : Jvm.MethodName)) ∈ lw_all := lw_g (lw_at lw_m11 140 rfl) rfl
theorem q2660 : (Jvm.Cond.codeWith ({ cls := "NoteImporter", name := "words", desc := "(II)Ljava/util/ArrayList;" } : Jvm.MethodName) prog_1_method_14_code (4 : Nat) (Option.some (Jvm.ClassFile.FieldType.object "java/util/ArrayList")) [((0 : Nat), (6 : Nat), (7 : Nat), (117 : Nat)), ((0 : Nat), (6 : Nat), (7 : Nat), (131 : Nat))]) ∈ lw_all := lw_g (lw_at lw_m11 141 rfl) rfl
theorem q2661 : (Jvm.Cond.classLink "NoteImporter" (117 : Nat) "NoteImporter$WordException") ∈ lw_all := lw_g (lw_at lw_m11 142 rfl) rfl
theorem q2662 : (Jvm.Cond.classLink "NoteImporter" (131 : Nat) "NoteImporter$CountException") ∈ lw_all := lw_g (lw_at lw_m11 143 rfl) rfl
theorem q2663 : (Jvm.Cond.methodLink "NoteImporter" (134 : Nat) ({ cls := "NoteImporter", name := "read", desc := "(II)Ljava/util/ArrayList;" } : Jvm.MethodName)) ∈ lw_all := lw_g (lw_at lw_m11 144 rfl) rfl
theorem q2664 : (Jvm.Cond.privateMethod ({ cls := "NoteImporter", name := "read", desc := "(II)Ljava/util/ArrayList;" } : Jvm.MethodName)) ∈ lw_tbl := lw_at lw_m11 145 rfl
theorem q2665 : (Jvm.Cond.instanceMethod ({ cls := "NoteImporter", name := "read", desc := "(II)Ljava/util/ArrayList;" } : Jvm.MethodName)) ∈ lw_all := lw_g (lw_at lw_m11 146 rfl) rfl
theorem q2666 : (Jvm.Cond.code ({ cls := "NoteImporter", name := "read", desc := "(II)Ljava/util/ArrayList;" } : Jvm.MethodName) prog_1_method_13_code (7 : Nat) (Option.some (Jvm.ClassFile.FieldType.object "java/util/ArrayList"))) ∈ lw_all := lw_g (lw_at lw_m11 147 rfl) rfl
theorem q2667 : (Jvm.Cond.classLink "NoteImporter" (58 : Nat) "java/util/ArrayList") ∈ lw_all := lw_g (lw_at lw_m11 148 rfl) rfl
theorem q2668 : (Jvm.Cond.methodLink "NoteImporter" (99 : Nat) ({ cls := "java/util/ArrayList", name := "<init>", desc := "(I)V" } : Jvm.MethodName)) ∈ lw_all := lw_g (lw_at lw_m11 149 rfl) rfl
theorem q2669 : (Jvm.Cond.constantLong "NoteImporter" (102 : Nat) (97 : Int64)) ∈ lw_all := lw_g (lw_at lw_m11 150 rfl) rfl
theorem q2670 : (Jvm.Cond.constantLong "NoteImporter" (104 : Nat) (122 : Int64)) ∈ lw_all := lw_g (lw_at lw_m11 151 rfl) rfl
theorem q2671 : (Jvm.Cond.methodLink "NoteImporter" (106 : Nat) ({ cls := "java/lang/StringBuilder", name := "append", desc := "(C)Ljava/lang/StringBuilder;" } : Jvm.MethodName)) ∈ lw_all := lw_g (lw_at lw_m11 152 rfl) rfl
theorem q2672 : (Jvm.Cond.methodLink "NoteImporter" (110 : Nat) ({ cls := "NoteImporter", name := "isBlank", desc := "(I)Z" } : Jvm.MethodName)) ∈ lw_all := lw_g (lw_at lw_m11 153 rfl) rfl
theorem q2673 : (Jvm.Cond.methodLink "NoteImporter" (114 : Nat) ({ cls := "java/lang/StringBuilder", name := "length", desc := "()I" } : Jvm.MethodName)) ∈ lw_all := lw_g (lw_at lw_m11 154 rfl) rfl
theorem q2674 : (Jvm.Cond.methodLink "NoteImporter" (119 : Nat) ({ cls := "NoteImporter$WordException", name := "<init>", desc := "()V" } : Jvm.MethodName)) ∈ lw_all := lw_g (lw_at lw_m11 155 rfl) rfl
theorem q2675 : (Jvm.Cond.methodLink "NoteImporter" (120 : Nat) ({ cls := "java/lang/StringBuilder", name := "toString", desc := "()Ljava/lang/String;" } : Jvm.MethodName)) ∈ lw_all := lw_g (lw_at lw_m11 156 rfl) rfl
theorem q2676 : (Jvm.Cond.methodLink "NoteImporter" (124 : Nat) ({ cls := "java/util/ArrayList", name := "add", desc := "(Ljava/lang/Object;)Z" } : Jvm.MethodName)) ∈ lw_all := lw_g (lw_at lw_m11 157 rfl) rfl
theorem q2677 : (Jvm.Cond.methodLink "NoteImporter" (128 : Nat) ({ cls := "java/lang/StringBuilder", name := "setLength", desc := "(I)V" } : Jvm.MethodName)) ∈ lw_all := lw_g (lw_at lw_m11 158 rfl) rfl
theorem q2753 : (Jvm.Cond.methodLink "NoteImporter" (133 : Nat) ({ cls := "NoteImporter$CountException", name := "<init>", desc := "()V" } : Jvm.MethodName)) ∈ lw_all := lw_g (lw_at lw_m11 234 rfl) rfl
theorem q2759 : (Jvm.Cond.classLink "NoteImporter" (75 : Nat) "NoteImporter$Edition") ∈ lw_all := lw_g (lw_at lw_m12 0 rfl) rfl
theorem q2760 : (Jvm.Cond.methodLink "NoteImporter" (172 : Nat) ({ cls := "NoteImporter$Edition", name := "<init>", desc := "(II)V" } : Jvm.MethodName)) ∈ lw_all := lw_g (lw_at lw_m12 1 rfl) rfl
theorem q2761 : (Jvm.Cond.classLink "NoteImporter" (141 : Nat) "java/lang/String") ∈ lw_all := lw_g (lw_at lw_m12 2 rfl) rfl
theorem q2762 : (Jvm.Cond.methodLink "NoteImporter" (189 : Nat) ({ cls := "NoteImporter$Edition", name := "add", desc := "(Ljava/lang/String;Z)V" } : Jvm.MethodName)) ∈ lw_all := lw_g (lw_at lw_m12 3 rfl) rfl
theorem q2763 : (Jvm.Cond.methodLink "NoteImporter" (192 : Nat) ({ cls := "NoteImporter", name := "change", desc := "()V" } : Jvm.MethodName)) ∈ lw_all := lw_g (lw_at lw_m12 4 rfl) rfl
theorem q2764 : (Jvm.Cond.privateMethod ({ cls := "NoteImporter", name := "change", desc := "()V" } : Jvm.MethodName)) ∈ lw_tbl := lw_at lw_m12 5 rfl
theorem q2765 : (Jvm.Cond.instanceMethod ({ cls := "NoteImporter", name := "change", desc := "()V" } : Jvm.MethodName)) ∈ lw_all := lw_g (lw_at lw_m12 6 rfl) rfl
theorem q2766 : (Jvm.Cond.code ({ cls := "NoteImporter", name := "change", desc := "()V" } : Jvm.MethodName) prog_1_method_16_code (1 : Nat) (Option.none : Option Jvm.ClassFile.FieldType)) ∈ lw_all := lw_g (lw_at lw_m12 7 rfl) rfl
theorem q2767 : (Jvm.Cond.methodLink "NoteImporter" (195 : Nat) ({ cls := "NoteImporter$Library", name := "addEdition", desc := "(LNoteImporter$Edition;)I" } : Jvm.MethodName)) ∈ lw_all := lw_g (lw_at lw_m12 8 rfl) rfl
theorem q2775 : (Jvm.Cond.instanceMethod ({ cls := "NoteImporter", name := "setLayout", desc := "(III)I" } : Jvm.MethodName)) ∈ lw_all := lw_g (lw_at lw_m12 16 rfl) rfl
theorem q2776 : (Jvm.Cond.selects "NoteImporter" ({ cls := "NoteImporter", name := "setLayout", desc := "(III)I" } : Jvm.MethodName) ({ cls := "NoteImporter", name := "setLayout", desc := "(III)I" } : Jvm.MethodName)) ∈ lw_all := lw_g (lw_at lw_m12 17 rfl) rfl
theorem q2777 : (Jvm.Cond.code ({ cls := "NoteImporter", name := "setLayout", desc := "(III)I" } : Jvm.MethodName) prog_1_method_19_code (5 : Nat) (Option.some Jvm.ClassFile.FieldType.int)) ∈ lw_all := lw_g (lw_at lw_m12 18 rfl) rfl
theorem q2778 : (Jvm.Cond.methodLink "NoteImporter" (77 : Nat) ({ cls := "NoteImporter", name := "edition", desc := "(I)LNoteImporter$Edition;" } : Jvm.MethodName)) ∈ lw_all := lw_g (lw_at lw_m12 19 rfl) rfl
theorem q2779 : (Jvm.Cond.privateMethod ({ cls := "NoteImporter", name := "edition", desc := "(I)LNoteImporter$Edition;" } : Jvm.MethodName)) ∈ lw_tbl := lw_at lw_m12 20 rfl
theorem q2780 : (Jvm.Cond.instanceMethod ({ cls := "NoteImporter", name := "edition", desc := "(I)LNoteImporter$Edition;" } : Jvm.MethodName)) ∈ lw_all := lw_g (lw_at lw_m12 21 rfl) rfl
theorem q2781 : (Jvm.Cond.code ({ cls := "NoteImporter", name := "edition", desc := "(I)LNoteImporter$Edition;" } : Jvm.MethodName) prog_1_method_7_code (2 : Nat) (Option.some (Jvm.ClassFile.FieldType.object "NoteImporter$Edition"))) ∈ lw_all := lw_g (lw_at lw_m12 22 rfl) rfl
theorem q2782 : (Jvm.Cond.methodLink "NoteImporter" (67 : Nat) ({ cls := "NoteImporter", name := "checkIndex", desc := "(Z)V" } : Jvm.MethodName)) ∈ lw_all := lw_g (lw_at lw_m12 23 rfl) rfl
theorem q2783 : (Jvm.Cond.static ({ cls := "NoteImporter", name := "checkIndex", desc := "(Z)V" } : Jvm.MethodName)) ∈ lw_all := lw_g (lw_at lw_m12 24 rfl) rfl
theorem q2784 : (Jvm.Cond.code ({ cls := "NoteImporter", name := "checkIndex", desc := "(Z)V" } : Jvm.MethodName) prog_1_method_2_code (1 : Nat) (Option.none : Option Jvm.ClassFile.FieldType)) ∈ lw_all := lw_g (lw_at lw_m12 25 rfl) rfl
theorem q2785 : (Jvm.Cond.classLink "NoteImporter" (1 : Nat) "java/lang/IndexOutOfBoundsException") ∈ lw_all := lw_g (lw_at lw_m12 26 rfl) rfl
theorem q2794 : (Jvm.Cond.methodLink "NoteImporter" (3 : Nat) ({ cls := "java/lang/IndexOutOfBoundsException", name := "<init>", desc := "()V" } : Jvm.MethodName)) ∈ lw_all := lw_g (lw_at lw_m12 35 rfl) rfl
theorem q2800 : (Jvm.Cond.methodLink "NoteImporter" (205 : Nat) ({ cls := "NoteImporter$Edition", name := "lay", desc := "()V" } : Jvm.MethodName)) ∈ lw_all := lw_g (lw_at lw_m12 41 rfl) rfl
theorem q2805 : (Jvm.Cond.instanceMethod ({ cls := "NoteImporter", name := "edition", desc := "(II)I" } : Jvm.MethodName)) ∈ lw_all := lw_g (lw_at lw_m12 46 rfl) rfl
theorem q2806 : (Jvm.Cond.selects "NoteImporter" ({ cls := "NoteImporter", name := "edition", desc := "(II)I" } : Jvm.MethodName) ({ cls := "NoteImporter", name := "edition", desc := "(II)I" } : Jvm.MethodName)) ∈ lw_all := lw_g (lw_at lw_m12 47 rfl) rfl
theorem q2807 : (Jvm.Cond.code ({ cls := "NoteImporter", name := "edition", desc := "(II)I" } : Jvm.MethodName) prog_1_method_20_code (4 : Nat) (Option.some Jvm.ClassFile.FieldType.int)) ∈ lw_all := lw_g (lw_at lw_m12 48 rfl) rfl
theorem q2808 : (Jvm.Cond.constantLong "NoteImporter" (211 : Nat) (4 : Int64)) ∈ lw_all := lw_g (lw_at lw_m12 49 rfl) rfl
theorem q2809 : (Jvm.Cond.methodLink "NoteImporter" (213 : Nat) ({ cls := "NoteImporter$Edition", name := "lineCount", desc := "()I" } : Jvm.MethodName)) ∈ lw_all := lw_g (lw_at lw_m12 50 rfl) rfl
theorem q2814 : (Jvm.Cond.instanceMethod ({ cls := "NoteImporter", name := "word", desc := "(III)I" } : Jvm.MethodName)) ∈ lw_all := lw_g (lw_at lw_m12 55 rfl) rfl
theorem q2815 : (Jvm.Cond.selects "NoteImporter" ({ cls := "NoteImporter", name := "word", desc := "(III)I" } : Jvm.MethodName) ({ cls := "NoteImporter", name := "word", desc := "(III)I" } : Jvm.MethodName)) ∈ lw_all := lw_g (lw_at lw_m12 56 rfl) rfl
theorem q2816 : (Jvm.Cond.code ({ cls := "NoteImporter", name := "word", desc := "(III)I" } : Jvm.MethodName) prog_1_method_21_code (5 : Nat) (Option.some Jvm.ClassFile.FieldType.int)) ∈ lw_all := lw_g (lw_at lw_m12 57 rfl) rfl
theorem q2817 : (Jvm.Cond.methodLink "NoteImporter" (216 : Nat) ({ cls := "NoteImporter", name := "editionWith", desc := "(II)LNoteImporter$Edition;" } : Jvm.MethodName)) ∈ lw_all := lw_g (lw_at lw_m12 58 rfl) rfl
theorem q2818 : (Jvm.Cond.privateMethod ({ cls := "NoteImporter", name := "editionWith", desc := "(II)LNoteImporter$Edition;" } : Jvm.MethodName)) ∈ lw_tbl := lw_at lw_m12 59 rfl
theorem q2819 : (Jvm.Cond.instanceMethod ({ cls := "NoteImporter", name := "editionWith", desc := "(II)LNoteImporter$Edition;" } : Jvm.MethodName)) ∈ lw_all := lw_g (lw_at lw_m12 60 rfl) rfl
theorem q2820 : (Jvm.Cond.code ({ cls := "NoteImporter", name := "editionWith", desc := "(II)LNoteImporter$Edition;" } : Jvm.MethodName) prog_1_method_8_code (4 : Nat) (Option.some (Jvm.ClassFile.FieldType.object "NoteImporter$Edition"))) ∈ lw_all := lw_g (lw_at lw_m12 61 rfl) rfl
theorem q2821 : (Jvm.Cond.methodLink "NoteImporter" (81 : Nat) ({ cls := "NoteImporter$Edition", name := "last", desc := "()I" } : Jvm.MethodName)) ∈ lw_all := lw_g (lw_at lw_m12 62 rfl) rfl
theorem q2822 : (Jvm.Cond.methodLink "NoteImporter" (236 : Nat) ({ cls := "java/lang/String", name := "length", desc := "()I" } : Jvm.MethodName)) ∈ lw_all := lw_g (lw_at lw_m12 63 rfl) rfl
theorem q2823 : (Jvm.Cond.classLink "NoteImporter" (240 : Nat) "java/lang/Boolean") ∈ lw_all := lw_g (lw_at lw_m12 64 rfl) rfl
theorem q2824 : (Jvm.Cond.methodLink "NoteImporter" (242 : Nat) ({ cls := "java/lang/Boolean", name := "booleanValue", desc := "()Z" } : Jvm.MethodName)) ∈ lw_all := lw_g (lw_at lw_m12 65 rfl) rfl
theorem q2829 : (Jvm.Cond.instanceMethod ({ cls := "NoteImporter", name := "letter", desc := "(III)I" } : Jvm.MethodName)) ∈ lw_all := lw_g (lw_at lw_m12 70 rfl) rfl
theorem q2830 : (Jvm.Cond.selects "NoteImporter" ({ cls := "NoteImporter", name := "letter", desc := "(III)I" } : Jvm.MethodName) ({ cls := "NoteImporter", name := "letter", desc := "(III)I" } : Jvm.MethodName)) ∈ lw_all := lw_g (lw_at lw_m12 71 rfl) rfl
theorem q2831 : (Jvm.Cond.code ({ cls := "NoteImporter", name := "letter", desc := "(III)I" } : Jvm.MethodName) prog_1_method_22_code (5 : Nat) (Option.some Jvm.ClassFile.FieldType.int)) ∈ lw_all := lw_g (lw_at lw_m12 72 rfl) rfl
theorem q2832 : (Jvm.Cond.methodLink "NoteImporter" (245 : Nat) ({ cls := "java/lang/String", name := "charAt", desc := "(I)C" } : Jvm.MethodName)) ∈ lw_all := lw_g (lw_at lw_m12 73 rfl) rfl
theorem q2847 : (Jvm.Cond.instanceMethod ({ cls := "NoteImporter", name := "insertWord", desc := "(II)I" } : Jvm.MethodName)) ∈ lw_all := lw_g (lw_at lw_m12 88 rfl) rfl
theorem q2848 : (Jvm.Cond.selects "NoteImporter" ({ cls := "NoteImporter", name := "insertWord", desc := "(II)I" } : Jvm.MethodName) ({ cls := "NoteImporter", name := "insertWord", desc := "(II)I" } : Jvm.MethodName)) ∈ lw_all := lw_g (lw_at lw_m12 89 rfl) rfl
theorem q2849 : (Jvm.Cond.code ({ cls := "NoteImporter", name := "insertWord", desc := "(II)I" } : Jvm.MethodName) prog_1_method_23_code (7 : Nat) (Option.some Jvm.ClassFile.FieldType.int)) ∈ lw_all := lw_g (lw_at lw_m12 90 rfl) rfl
theorem q2850 : (Jvm.Cond.methodLink "NoteImporter" (249 : Nat) ({ cls := "NoteImporter", name := "oneWord", desc := "()Ljava/lang/String;" } : Jvm.MethodName)) ∈ lw_all := lw_g (lw_at lw_m12 91 rfl) rfl
theorem q2851 : (Jvm.Cond.privateMethod ({ cls := "NoteImporter", name := "oneWord", desc := "()Ljava/lang/String;" } : Jvm.MethodName)) ∈ lw_tbl := lw_at lw_m12 92 rfl
theorem q2852 : (Jvm.Cond.instanceMethod ({ cls := "NoteImporter", name := "oneWord", desc := "()Ljava/lang/String;" } : Jvm.MethodName)) ∈ lw_all := lw_g (lw_at lw_m12 93 rfl) rfl
theorem q2853 : (Jvm.Cond.code ({ cls := "NoteImporter", name := "oneWord", desc := "()Ljava/lang/String;" } : Jvm.MethodName) prog_1_method_15_code (1 : Nat) (Option.some (Jvm.ClassFile.FieldType.object "java/lang/String"))) ∈ lw_all := lw_g (lw_at lw_m12 94 rfl) rfl
theorem q2854 : (Jvm.Cond.methodLink "NoteImporter" (252 : Nat) ({ cls := "java/util/ArrayList", name := "add", desc := "(ILjava/lang/Object;)V" } : Jvm.MethodName)) ∈ lw_all := lw_g (lw_at lw_m12 95 rfl) rfl
theorem q2870 : (Jvm.Cond.methodLink "NoteImporter" (255 : Nat) ({ cls := "java/lang/Boolean", name := "valueOf", desc := "(Z)Ljava/lang/Boolean;" } : Jvm.MethodName)) ∈ lw_all := lw_g (lw_at lw_m12 111 rfl) rfl
theorem q2871 : (Jvm.Cond.methodLink "NoteImporter" (259 : Nat) ({ cls := "java/util/ArrayList", name := "set", desc := "(ILjava/lang/Object;)Ljava/lang/Object;" } : Jvm.MethodName)) ∈ lw_all := lw_g (lw_at lw_m12 112 rfl) rfl
theorem q2875 : (Jvm.Cond.classLink "NoteImporter" (263 : Nat) "NoteImporter$Note") ∈ lw_all := lw_g (lw_at lw_m12 116 rfl) rfl
theorem q2876 : (Jvm.Cond.methodLink "NoteImporter" (267 : Nat) ({ cls := "NoteImporter$Note", name := "inserted", desc := "(I)V" } : Jvm.MethodName)) ∈ lw_all := lw_g (lw_at lw_m12 117 rfl) rfl
theorem q2884 : (Jvm.Cond.instanceMethod ({ cls := "NoteImporter", name := "deleteWord", desc := "(II)I" } : Jvm.MethodName)) ∈ lw_all := lw_g (lw_at lw_m12 125 rfl) rfl
theorem q2885 : (Jvm.Cond.selects "NoteImporter" ({ cls := "NoteImporter", name := "deleteWord", desc := "(II)I" } : Jvm.MethodName) ({ cls := "NoteImporter", name := "deleteWord", desc := "(II)I" } : Jvm.MethodName)) ∈ lw_all := lw_g (lw_at lw_m12 126 rfl) rfl
theorem q2886 : (Jvm.Cond.code ({ cls := "NoteImporter", name := "deleteWord", desc := "(II)I" } : Jvm.MethodName) prog_1_method_24_code (8 : Nat) (Option.some Jvm.ClassFile.FieldType.int)) ∈ lw_all := lw_g (lw_at lw_m12 127 rfl) rfl
theorem q2887 : (Jvm.Cond.methodLink "NoteImporter" (270 : Nat) ({ cls := "java/util/ArrayList", name := "remove", desc := "(I)Ljava/lang/Object;" } : Jvm.MethodName)) ∈ lw_all := lw_g (lw_at lw_m12 128 rfl) rfl
theorem q2895 : (Jvm.Cond.methodLink "NoteImporter" (273 : Nat) ({ cls := "NoteImporter$Note", name := "deleted", desc := "(II)V" } : Jvm.MethodName)) ∈ lw_all := lw_g (lw_at lw_m12 136 rfl) rfl
theorem q2904 : (Jvm.Cond.instanceMethod ({ cls := "NoteImporter", name := "setParagraph", desc := "(IIZ)Z" } : Jvm.MethodName)) ∈ lw_all := lw_g (lw_at lw_m12 145 rfl) rfl
theorem q2905 : (Jvm.Cond.selects "NoteImporter" ({ cls := "NoteImporter", name := "setParagraph", desc := "(IIZ)Z" } : Jvm.MethodName) ({ cls := "NoteImporter", name := "setParagraph", desc := "(IIZ)Z" } : Jvm.MethodName)) ∈ lw_all := lw_g (lw_at lw_m12 146 rfl) rfl
theorem q2906 : (Jvm.Cond.code ({ cls := "NoteImporter", name := "setParagraph", desc := "(IIZ)Z" } : Jvm.MethodName) prog_1_method_25_code (6 : Nat) (Option.some Jvm.ClassFile.FieldType.boolean)) ∈ lw_all := lw_g (lw_at lw_m12 147 rfl) rfl
theorem q2911 : (Jvm.Cond.instanceMethod ({ cls := "NoteImporter", name := "setTarget", desc := "(I)I" } : Jvm.MethodName)) ∈ lw_all := lw_g (lw_at lw_m12 152 rfl) rfl
theorem q2912 : (Jvm.Cond.selects "NoteImporter" ({ cls := "NoteImporter", name := "setTarget", desc := "(I)I" } : Jvm.MethodName) ({ cls := "NoteImporter", name := "setTarget", desc := "(I)I" } : Jvm.MethodName)) ∈ lw_all := lw_g (lw_at lw_m12 153 rfl) rfl
theorem q2913 : (Jvm.Cond.code ({ cls := "NoteImporter", name := "setTarget", desc := "(I)I" } : Jvm.MethodName) prog_1_method_26_code (3 : Nat) (Option.some Jvm.ClassFile.FieldType.int)) ∈ lw_all := lw_g (lw_at lw_m12 154 rfl) rfl
theorem q2918 : (Jvm.Cond.instanceMethod ({ cls := "NoteImporter", name := "addReader", desc := "()I" } : Jvm.MethodName)) ∈ lw_all := lw_g (lw_at lw_m12 159 rfl) rfl
theorem q2919 : (Jvm.Cond.selects "NoteImporter" ({ cls := "NoteImporter", name := "addReader", desc := "()I" } : Jvm.MethodName) ({ cls := "NoteImporter", name := "addReader", desc := "()I" } : Jvm.MethodName)) ∈ lw_all := lw_g (lw_at lw_m12 160 rfl) rfl
theorem q2920 : (Jvm.Cond.code ({ cls := "NoteImporter", name := "addReader", desc := "()I" } : Jvm.MethodName) prog_1_method_27_code (2 : Nat) (Option.some Jvm.ClassFile.FieldType.int)) ∈ lw_all := lw_g (lw_at lw_m12 161 rfl) rfl
theorem q2921 : (Jvm.Cond.methodLink "NoteImporter" (280 : Nat) ({ cls := "java/util/HashMap", name := "containsKey", desc := "(Ljava/lang/Object;)Z" } : Jvm.MethodName)) ∈ lw_all := lw_g (lw_at lw_m12 162 rfl) rfl
theorem q2922 : (Jvm.Cond.methodLink "NoteImporter" (285 : Nat) ({ cls := "NoteImporter$Library", name := "addReader", desc := "(Ljava/lang/String;)V" } : Jvm.MethodName)) ∈ lw_all := lw_g (lw_at lw_m12 163 rfl) rfl
theorem q2927 : (Jvm.Cond.instanceMethod ({ cls := "NoteImporter", name := "addNote", desc := "(IIIII)I" } : Jvm.MethodName)) ∈ lw_all := lw_g (lw_at lw_m12 168 rfl) rfl
theorem q2928 : (Jvm.Cond.selects "NoteImporter" ({ cls := "NoteImporter", name := "addNote", desc := "(IIIII)I" } : Jvm.MethodName) ({ cls := "NoteImporter", name := "addNote", desc := "(IIIII)I" } : Jvm.MethodName)) ∈ lw_all := lw_g (lw_at lw_m12 169 rfl) rfl
theorem q2929 : (Jvm.Cond.code ({ cls := "NoteImporter", name := "addNote", desc := "(IIIII)I" } : Jvm.MethodName) prog_1_method_28_code (8 : Nat) (Option.some Jvm.ClassFile.FieldType.int)) ∈ lw_all := lw_g (lw_at lw_m12 170 rfl) rfl
theorem q2930 : (Jvm.Cond.constantLong "NoteImporter" (289 : Nat) (3 : Int64)) ∈ lw_all := lw_g (lw_at lw_m12 171 rfl) rfl
theorem q2931 : (Jvm.Cond.methodLink "NoteImporter" (291 : Nat) ({ cls := "NoteImporter$Note", name := "<init>", desc := "(IIIIILjava/util/ArrayList;)V" } : Jvm.MethodName)) ∈ lw_all := lw_g (lw_at lw_m12 172 rfl) rfl
theorem q2936 : (Jvm.Cond.instanceMethod ({ cls := "NoteImporter", name := "note", desc := "(II)I" } : Jvm.MethodName)) ∈ lw_all := lw_g (lw_at lw_m12 177 rfl) rfl
theorem q2937 : (Jvm.Cond.selects "NoteImporter" ({ cls := "NoteImporter", name := "note", desc := "(II)I" } : Jvm.MethodName) ({ cls := "NoteImporter", name := "note", desc := "(II)I" } : Jvm.MethodName)) ∈ lw_all := lw_g (lw_at lw_m12 178 rfl) rfl
theorem q2938 : (Jvm.Cond.code ({ cls := "NoteImporter", name := "note", desc := "(II)I" } : Jvm.MethodName) prog_1_method_30_code (4 : Nat) (Option.some Jvm.ClassFile.FieldType.int)) ∈ lw_all := lw_g (lw_at lw_m12 179 rfl) rfl
theorem q2939 : (Jvm.Cond.methodLink "NoteImporter" (294 : Nat) ({ cls := "NoteImporter", name := "noteAt", desc := "(I)LNoteImporter$Note;" } : Jvm.MethodName)) ∈ lw_all := lw_g (lw_at lw_m12 180 rfl) rfl
theorem q2940 : (Jvm.Cond.privateMethod ({ cls := "NoteImporter", name := "noteAt", desc := "(I)LNoteImporter$Note;" } : Jvm.MethodName)) ∈ lw_tbl := lw_at lw_m12 181 rfl
theorem q2941 : (Jvm.Cond.instanceMethod ({ cls := "NoteImporter", name := "noteAt", desc := "(I)LNoteImporter$Note;" } : Jvm.MethodName)) ∈ lw_all := lw_g (lw_at lw_m12 182 rfl) rfl
theorem q2942 : (Jvm.Cond.code ({ cls := "NoteImporter", name := "noteAt", desc := "(I)LNoteImporter$Note;" } : Jvm.MethodName) prog_1_method_29_code (2 : Nat) (Option.some (Jvm.ClassFile.FieldType.object "NoteImporter$Note"))) ∈ lw_all := lw_g (lw_at lw_m12 183 rfl) rfl
theorem q2947 : (Jvm.Cond.instanceMethod ({ cls := "NoteImporter", name := "removeNote", desc := "()I" } : Jvm.MethodName)) ∈ lw_all := lw_g (lw_at lw_m12 188 rfl) rfl
theorem q2948 : (Jvm.Cond.selects "NoteImporter" ({ cls := "NoteImporter", name := "removeNote", desc := "()I" } : Jvm.MethodName) ({ cls := "NoteImporter", name := "removeNote", desc := "()I" } : Jvm.MethodName)) ∈ lw_all := lw_g (lw_at lw_m12 189 rfl) rfl
theorem q2949 : (Jvm.Cond.code ({ cls := "NoteImporter", name := "removeNote", desc := "()I" } : Jvm.MethodName) prog_1_method_31_code (2 : Nat) (Option.some Jvm.ClassFile.FieldType.int)) ∈ lw_all := lw_g (lw_at lw_m12 190 rfl) rfl
theorem q2954 : (Jvm.Cond.instanceMethod ({ cls := "NoteImporter", name := "partner", desc := "(II)I" } : Jvm.MethodName)) ∈ lw_all := lw_g (lw_at lw_m12 195 rfl) rfl
theorem q2955 : (Jvm.Cond.selects "NoteImporter" ({ cls := "NoteImporter", name := "partner", desc := "(II)I" } : Jvm.MethodName) ({ cls := "NoteImporter", name := "partner", desc := "(II)I" } : Jvm.MethodName)) ∈ lw_all := lw_g (lw_at lw_m12 196 rfl) rfl
theorem q2956 : (Jvm.Cond.code ({ cls := "NoteImporter", name := "partner", desc := "(II)I" } : Jvm.MethodName) prog_1_method_32_code (4 : Nat) (Option.some Jvm.ClassFile.FieldType.int)) ∈ lw_all := lw_g (lw_at lw_m12 197 rfl) rfl
theorem q2961 : (Jvm.Cond.instanceMethod ({ cls := "NoteImporter", name := "partners", desc := "(I)I" } : Jvm.MethodName)) ∈ lw_all := lw_g (lw_at lw_m12 202 rfl) rfl
theorem q2962 : (Jvm.Cond.selects "NoteImporter" ({ cls := "NoteImporter", name := "partners", desc := "(I)I" } : Jvm.MethodName) ({ cls := "NoteImporter", name := "partners", desc := "(I)I" } : Jvm.MethodName)) ∈ lw_all := lw_g (lw_at lw_m12 203 rfl) rfl
theorem q2963 : (Jvm.Cond.code ({ cls := "NoteImporter", name := "partners", desc := "(I)I" } : Jvm.MethodName) prog_1_method_33_code (3 : Nat) (Option.some Jvm.ClassFile.FieldType.int)) ∈ lw_all := lw_g (lw_at lw_m12 204 rfl) rfl
theorem q2964 : (Jvm.Cond.methodLink "NoteImporter" (321 : Nat) ({ cls := "NoteImporter$Alignment", name := "count", desc := "()I" } : Jvm.MethodName)) ∈ lw_all := lw_g (lw_at lw_m12 205 rfl) rfl
theorem q2969 : (Jvm.Cond.instanceMethod ({ cls := "NoteImporter", name := "anchor", desc := "(II)I" } : Jvm.MethodName)) ∈ lw_all := lw_g (lw_at lw_m12 210 rfl) rfl
theorem q2970 : (Jvm.Cond.selects "NoteImporter" ({ cls := "NoteImporter", name := "anchor", desc := "(II)I" } : Jvm.MethodName) ({ cls := "NoteImporter", name := "anchor", desc := "(II)I" } : Jvm.MethodName)) ∈ lw_all := lw_g (lw_at lw_m12 211 rfl) rfl
theorem q2971 : (Jvm.Cond.code ({ cls := "NoteImporter", name := "anchor", desc := "(II)I" } : Jvm.MethodName) prog_1_method_34_code (5 : Nat) (Option.some Jvm.ClassFile.FieldType.int)) ∈ lw_all := lw_g (lw_at lw_m12 212 rfl) rfl
theorem q2976 : (Jvm.Cond.instanceMethod ({ cls := "NoteImporter", name := "anchors", desc := "(I)I" } : Jvm.MethodName)) ∈ lw_all := lw_g (lw_at lw_m12 217 rfl) rfl
theorem q2977 : (Jvm.Cond.selects "NoteImporter" ({ cls := "NoteImporter", name := "anchors", desc := "(I)I" } : Jvm.MethodName) ({ cls := "NoteImporter", name := "anchors", desc := "(I)I" } : Jvm.MethodName)) ∈ lw_all := lw_g (lw_at lw_m12 218 rfl) rfl
theorem q2978 : (Jvm.Cond.code ({ cls := "NoteImporter", name := "anchors", desc := "(I)I" } : Jvm.MethodName) prog_1_method_35_code (4 : Nat) (Option.some Jvm.ClassFile.FieldType.int)) ∈ lw_all := lw_g (lw_at lw_m12 219 rfl) rfl
theorem q2983 : (Jvm.Cond.instanceMethod ({ cls := "NoteImporter", name := "setThreshold", desc := "(I)I" } : Jvm.MethodName)) ∈ lw_all := lw_g (lw_at lw_m12 224 rfl) rfl
theorem q2984 : (Jvm.Cond.selects "NoteImporter" ({ cls := "NoteImporter", name := "setThreshold", desc := "(I)I" } : Jvm.MethodName) ({ cls := "NoteImporter", name := "setThreshold", desc := "(I)I" } : Jvm.MethodName)) ∈ lw_all := lw_g (lw_at lw_m12 225 rfl) rfl
theorem q2985 : (Jvm.Cond.code ({ cls := "NoteImporter", name := "setThreshold", desc := "(I)I" } : Jvm.MethodName) prog_1_method_36_code (3 : Nat) (Option.some Jvm.ClassFile.FieldType.int)) ∈ lw_all := lw_g (lw_at lw_m12 226 rfl) rfl
theorem q2986 : (Jvm.Cond.constantLong "NoteImporter" (338 : Nat) (100 : Int64)) ∈ lw_all := lw_g (lw_at lw_m12 227 rfl) rfl
theorem q2991 : (Jvm.Cond.instanceMethod ({ cls := "NoteImporter", name := "areAlike", desc := "(II)Z" } : Jvm.MethodName)) ∈ lw_all := lw_g (lw_at lw_m12 232 rfl) rfl
theorem q2992 : (Jvm.Cond.selects "NoteImporter" ({ cls := "NoteImporter", name := "areAlike", desc := "(II)Z" } : Jvm.MethodName) ({ cls := "NoteImporter", name := "areAlike", desc := "(II)Z" } : Jvm.MethodName)) ∈ lw_all := lw_g (lw_at lw_m12 233 rfl) rfl
theorem q2993 : (Jvm.Cond.code ({ cls := "NoteImporter", name := "areAlike", desc := "(II)Z" } : Jvm.MethodName) prog_1_method_37_code (3 : Nat) (Option.some Jvm.ClassFile.FieldType.boolean)) ∈ lw_all := lw_g (lw_at lw_m12 234 rfl) rfl
theorem q2994 : (Jvm.Cond.methodLink "NoteImporter" (340 : Nat) ({ cls := "NoteImporter$View", name := "areAlike", desc := "(II)Z" } : Jvm.MethodName)) ∈ lw_all := lw_g (lw_at lw_m12 235 rfl) rfl
theorem q2999 : (Jvm.Cond.instanceMethod ({ cls := "NoteImporter", name := "groupOf", desc := "(I)I" } : Jvm.MethodName)) ∈ lw_all := lw_g (lw_at lw_m13 0 rfl) rfl
theorem q3000 : (Jvm.Cond.selects "NoteImporter" ({ cls := "NoteImporter", name := "groupOf", desc := "(I)I" } : Jvm.MethodName) ({ cls := "NoteImporter", name := "groupOf", desc := "(I)I" } : Jvm.MethodName)) ∈ lw_all := lw_g (lw_at lw_m13 1 rfl) rfl
theorem q3001 : (Jvm.Cond.code ({ cls := "NoteImporter", name := "groupOf", desc := "(I)I" } : Jvm.MethodName) prog_1_method_38_code (3 : Nat) (Option.some Jvm.ClassFile.FieldType.int)) ∈ lw_all := lw_g (lw_at lw_m13 2 rfl) rfl
theorem q3006 : (Jvm.Cond.instanceMethod ({ cls := "NoteImporter", name := "group", desc := "(II)I" } : Jvm.MethodName)) ∈ lw_all := lw_g (lw_at lw_m13 7 rfl) rfl
theorem q3007 : (Jvm.Cond.selects "NoteImporter" ({ cls := "NoteImporter", name := "group", desc := "(II)I" } : Jvm.MethodName) ({ cls := "NoteImporter", name := "group", desc := "(II)I" } : Jvm.MethodName)) ∈ lw_all := lw_g (lw_at lw_m13 8 rfl) rfl
theorem q3008 : (Jvm.Cond.code ({ cls := "NoteImporter", name := "group", desc := "(II)I" } : Jvm.MethodName) prog_1_method_40_code (4 : Nat) (Option.some Jvm.ClassFile.FieldType.int)) ∈ lw_all := lw_g (lw_at lw_m13 9 rfl) rfl
theorem q3009 : (Jvm.Cond.methodLink "NoteImporter" (348 : Nat) ({ cls := "NoteImporter", name := "groupAt", desc := "(I)LNoteImporter$Group;" } : Jvm.MethodName)) ∈ lw_all := lw_g (lw_at lw_m13 10 rfl) rfl
theorem q3010 : (Jvm.Cond.privateMethod ({ cls := "NoteImporter", name := "groupAt", desc := "(I)LNoteImporter$Group;" } : Jvm.MethodName)) ∈ lw_tbl := lw_at lw_m13 11 rfl
theorem q3011 : (Jvm.Cond.instanceMethod ({ cls := "NoteImporter", name := "groupAt", desc := "(I)LNoteImporter$Group;" } : Jvm.MethodName)) ∈ lw_all := lw_g (lw_at lw_m13 12 rfl) rfl
theorem q3012 : (Jvm.Cond.code ({ cls := "NoteImporter", name := "groupAt", desc := "(I)LNoteImporter$Group;" } : Jvm.MethodName) prog_1_method_39_code (2 : Nat) (Option.some (Jvm.ClassFile.FieldType.object "NoteImporter$Group"))) ∈ lw_all := lw_g (lw_at lw_m13 13 rfl) rfl
theorem q3013 : (Jvm.Cond.classLink "NoteImporter" (353 : Nat) "java/lang/Integer") ∈ lw_all := lw_g (lw_at lw_m13 14 rfl) rfl
theorem q3014 : (Jvm.Cond.methodLink "NoteImporter" (355 : Nat) ({ cls := "java/lang/Integer", name := "intValue", desc := "()I" } : Jvm.MethodName)) ∈ lw_all := lw_g (lw_at lw_m13 15 rfl) rfl
theorem q3019 : (Jvm.Cond.instanceMethod ({ cls := "NoteImporter", name := "heat", desc := "(I)I" } : Jvm.MethodName)) ∈ lw_all := lw_g (lw_at lw_m13 20 rfl) rfl
theorem q3020 : (Jvm.Cond.selects "NoteImporter" ({ cls := "NoteImporter", name := "heat", desc := "(I)I" } : Jvm.MethodName) ({ cls := "NoteImporter", name := "heat", desc := "(I)I" } : Jvm.MethodName)) ∈ lw_all := lw_g (lw_at lw_m13 21 rfl) rfl
theorem q3021 : (Jvm.Cond.code ({ cls := "NoteImporter", name := "heat", desc := "(I)I" } : Jvm.MethodName) prog_1_method_42_code (2 : Nat) (Option.some Jvm.ClassFile.FieldType.int)) ∈ lw_all := lw_g (lw_at lw_m13 22 rfl) rfl
theorem q3026 : (Jvm.Cond.instanceMethod ({ cls := "NoteImporter", name := "marginGroups", desc := "(I)I" } : Jvm.MethodName)) ∈ lw_all := lw_g (lw_at lw_m13 27 rfl) rfl
theorem q3027 : (Jvm.Cond.selects "NoteImporter" ({ cls := "NoteImporter", name := "marginGroups", desc := "(I)I" } : Jvm.MethodName) ({ cls := "NoteImporter", name := "marginGroups", desc := "(I)I" } : Jvm.MethodName)) ∈ lw_all := lw_g (lw_at lw_m13 28 rfl) rfl
theorem q3028 : (Jvm.Cond.code ({ cls := "NoteImporter", name := "marginGroups", desc := "(I)I" } : Jvm.MethodName) prog_1_method_45_code (5 : Nat) (Option.some Jvm.ClassFile.FieldType.int)) ∈ lw_all := lw_g (lw_at lw_m13 29 rfl) rfl
theorem q3029 : (Jvm.Cond.methodLink "NoteImporter" (377 : Nat) ({ cls := "NoteImporter", name := "checkPage", desc := "(I)V" } : Jvm.MethodName)) ∈ lw_all := lw_g (lw_at lw_m13 30 rfl) rfl
theorem q3030 : (Jvm.Cond.privateMethod ({ cls := "NoteImporter", name := "checkPage", desc := "(I)V" } : Jvm.MethodName)) ∈ lw_tbl := lw_at lw_m13 31 rfl
theorem q3031 : (Jvm.Cond.instanceMethod ({ cls := "NoteImporter", name := "checkPage", desc := "(I)V" } : Jvm.MethodName)) ∈ lw_all := lw_g (lw_at lw_m13 32 rfl) rfl
theorem q3032 : (Jvm.Cond.code ({ cls := "NoteImporter", name := "checkPage", desc := "(I)V" } : Jvm.MethodName) prog_1_method_44_code (2 : Nat) (Option.none : Option Jvm.ClassFile.FieldType)) ∈ lw_all := lw_g (lw_at lw_m13 33 rfl) rfl
theorem q3033 : (Jvm.Cond.classLink "NoteImporter" (380 : Nat) "java/util/TreeSet") ∈ lw_all := lw_g (lw_at lw_m13 34 rfl) rfl
theorem q3035 : (Jvm.Cond.methodLink "NoteImporter" (382 : Nat) ({ cls := "java/util/TreeSet", name := "<init>", desc := "()V" } : Jvm.MethodName)) ∈ lw_all := lw_g (lw_at lw_m13 36 rfl) rfl
theorem q3074 : (Jvm.Cond.methodLink "NoteImporter" (387 : Nat) ({ cls := "java/lang/Integer", name := "valueOf", desc := "(I)Ljava/lang/Integer;" } : Jvm.MethodName)) ∈ lw_all := lw_g (lw_at lw_m13 75 rfl) rfl
theorem q3075 : (Jvm.Cond.methodLink "NoteImporter" (390 : Nat) ({ cls := "java/util/TreeSet", name := "add", desc := "(Ljava/lang/Object;)Z" } : Jvm.MethodName)) ∈ lw_all := lw_g (lw_at lw_m13 76 rfl) rfl
theorem q3076 : (Jvm.Cond.methodLink "NoteImporter" (391 : Nat) ({ cls := "java/util/TreeSet", name := "size", desc := "()I" } : Jvm.MethodName)) ∈ lw_all := lw_g (lw_at lw_m13 77 rfl) rfl
theorem q3081 : (Jvm.Cond.instanceMethod ({ cls := "NoteImporter", name := "marginRow", desc := "(II)I" } : Jvm.MethodName)) ∈ lw_all := lw_g (lw_at lw_m13 82 rfl) rfl
theorem q3082 : (Jvm.Cond.selects "NoteImporter" ({ cls := "NoteImporter", name := "marginRow", desc := "(II)I" } : Jvm.MethodName) ({ cls := "NoteImporter", name := "marginRow", desc := "(II)I" } : Jvm.MethodName)) ∈ lw_all := lw_g (lw_at lw_m13 83 rfl) rfl
theorem q3083 : (Jvm.Cond.code ({ cls := "NoteImporter", name := "marginRow", desc := "(II)I" } : Jvm.MethodName) prog_1_method_46_code (3 : Nat) (Option.some Jvm.ClassFile.FieldType.int)) ∈ lw_all := lw_g (lw_at lw_m13 84 rfl) rfl
theorem q3088 : (Jvm.Cond.instanceMethod ({ cls := "NoteImporter", name := "write", desc := "(I)I" } : Jvm.MethodName)) ∈ lw_all := lw_g (lw_at lw_m13 89 rfl) rfl
theorem q3089 : (Jvm.Cond.selects "NoteImporter" ({ cls := "NoteImporter", name := "write", desc := "(I)I" } : Jvm.MethodName) ({ cls := "NoteImporter", name := "write", desc := "(I)I" } : Jvm.MethodName)) ∈ lw_all := lw_g (lw_at lw_m13 90 rfl) rfl
theorem q3090 : (Jvm.Cond.code ({ cls := "NoteImporter", name := "write", desc := "(I)I" } : Jvm.MethodName) prog_1_method_48_code (6 : Nat) (Option.some Jvm.ClassFile.FieldType.int)) ∈ lw_all := lw_g (lw_at lw_m13 91 rfl) rfl
theorem q3091 : (Jvm.Cond.methodLink "NoteImporter" (392 : Nat) ({ cls := "java/lang/StringBuilder", name := "append", desc := "(Ljava/lang/String;)Ljava/lang/StringBuilder;" } : Jvm.MethodName)) ∈ lw_all := lw_g (lw_at lw_m13 92 rfl) rfl
theorem q3092 : (Jvm.Cond.methodLink "NoteImporter" (395 : Nat) ({ cls := "NoteImporter$Kind", name := "values", desc := "()[LNoteImporter$Kind;" } : Jvm.MethodName)) ∈ lw_all := lw_g (lw_at lw_m13 93 rfl) rfl
theorem q3097 : (Jvm.Cond.instanceMethod ({ cls := "NoteImporter", name := "outputByte", desc := "(I)I" } : Jvm.MethodName)) ∈ lw_all := lw_g (lw_at lw_m13 98 rfl) rfl
theorem q3098 : (Jvm.Cond.selects "NoteImporter" ({ cls := "NoteImporter", name := "outputByte", desc := "(I)I" } : Jvm.MethodName) ({ cls := "NoteImporter", name := "outputByte", desc := "(I)I" } : Jvm.MethodName)) ∈ lw_all := lw_g (lw_at lw_m13 99 rfl) rfl
theorem q3099 : (Jvm.Cond.code ({ cls := "NoteImporter", name := "outputByte", desc := "(I)I" } : Jvm.MethodName) prog_1_method_49_code (2 : Nat) (Option.some Jvm.ClassFile.FieldType.int)) ∈ lw_all := lw_g (lw_at lw_m13 100 rfl) rfl
theorem q3100 : (Jvm.Cond.methodLink "NoteImporter" (405 : Nat) ({ cls := "java/lang/StringBuilder", name := "charAt", desc := "(I)C" } : Jvm.MethodName)) ∈ lw_all := lw_g (lw_at lw_m13 101 rfl) rfl
theorem q3114 : (Jvm.Cond.instanceMethod ({ cls := "NoteImporter", name := "save", desc := "(I)V" } : Jvm.MethodName)) ∈ lw_all := lw_g (lw_at lw_m13 115 rfl) rfl
theorem q3115 : (Jvm.Cond.selects "NoteImporter" ({ cls := "NoteImporter", name := "save", desc := "(I)V" } : Jvm.MethodName) ({ cls := "NoteImporter", name := "save", desc := "(I)V" } : Jvm.MethodName)) ∈ lw_all := lw_g (lw_at lw_m13 116 rfl) rfl
theorem q3116 : (Jvm.Cond.code ({ cls := "NoteImporter", name := "save", desc := "(I)V" } : Jvm.MethodName) prog_1_method_53_code (2 : Nat) (Option.none : Option Jvm.ClassFile.FieldType)) ∈ lw_all := lw_g (lw_at lw_m13 117 rfl) rfl
theorem q3121 : (Jvm.Cond.instanceMethod ({ cls := "NoteImporter", name := "restore", desc := "(I)V" } : Jvm.MethodName)) ∈ lw_all := lw_g (lw_at lw_m13 122 rfl) rfl
theorem q3122 : (Jvm.Cond.selects "NoteImporter" ({ cls := "NoteImporter", name := "restore", desc := "(I)V" } : Jvm.MethodName) ({ cls := "NoteImporter", name := "restore", desc := "(I)V" } : Jvm.MethodName)) ∈ lw_all := lw_g (lw_at lw_m13 123 rfl) rfl
theorem q3123 : (Jvm.Cond.code ({ cls := "NoteImporter", name := "restore", desc := "(I)V" } : Jvm.MethodName) prog_1_method_54_code (2 : Nat) (Option.none : Option Jvm.ClassFile.FieldType)) ∈ lw_all := lw_g (lw_at lw_m13 124 rfl) rfl
theorem q3795 : (Jvm.Cond.castable "NoteImporter" "java/lang/Object") ∈ lw_tbl := lw_at lw_m16 76 rfl
theorem q3855 : (Jvm.Cond.fieldLinkNest "NoteImporter" (401 : Nat) "NoteImporter$Kind" "word" "Ljava/lang/String;" "NoteImporter") ∈ lw_tbl := lw_at lw_m16 136 rfl
theorem in_X1 : ∀ w ∈ wsX10, w ∈ lw_all := lw_in wsX10 [634, 636, 638, 640, 642, 644, 646, 648] (by decide +kernel) (by decide +kernel)

/-! NoteImporter$Library -/
set_option maxRecDepth 100000
def RX2 : String := "NoteImporter$Library"
def TX2 : u_T := fun k => match k with
  | 0 => ("NoteImporter$Library", "editions", "Ljava/util/ArrayList;", true)
  | 1 => ("NoteImporter$Library", "notes", "Ljava/util/ArrayList;", true)
  | 2 => ("NoteImporter$Library", "readers", "Ljava/util/ArrayList;", true)
  | 3 => ("NoteImporter$Library", "numbers", "Ljava/util/HashMap;", true)
  | 4 => ("NoteImporter$Library", "target", "I", false)
  | _ => ("NoteImporter$Library", "threshold", "I", false)
def tyX2 : Nat → FieldType := fun k => match k with
  | 0 => .object "java/util/ArrayList"
  | 1 => .object "java/util/ArrayList"
  | 2 => .object "java/util/ArrayList"
  | 3 => .object "java/util/HashMap"
  | 4 => .int
  | _ => .int
abbrev wsX20 : List Cond := u_ws RX2 TX2 6
theorem nmX2 : ∀ a, a < 6 → ∀ b, b < 6 → a ≠ b → (TX2 a).2.1 ≠ (TX2 b).2.1 := by decide +kernel
theorem tyX2_ok : ∀ k, k < 6 → parseFieldDescriptor (TX2 k).2.2.1 = some (tyX2 k) := by decide +kernel
abbrev cX2_init : ByteArray := prog_10_method_1_code
def yX2_init : MethodName := ⟨RX2, "<init>", "()V"⟩
def dkwX2_init_2 : List UInt8 := [183, 0, 28, 181, 0, 29, 42, 16, 50, 181, 0, 33, 177]
abbrev dktX2_init_2 : List UInt8 := dkwX2_init_2 ++ []
def dkwX2_init_1 : List UInt8 := [183, 0, 11, 181, 0, 20, 42, 187, 0, 9, 89, 16, 6, 183, 0, 11, 181, 0, 23, 42, 187, 0, 26, 89]
abbrev dktX2_init_1 : List UInt8 := dkwX2_init_1 ++ dktX2_init_2
def dkwX2_init_0 : List UInt8 := [42, 183, 0, 3, 42, 187, 0, 9, 89, 6, 183, 0, 11, 181, 0, 14, 42, 187, 0, 9, 89, 7]
abbrev dktX2_init_0 : List UInt8 := dkwX2_init_0 ++ dktX2_init_1
theorem dksX2_init_0 : cX2_init.data.toList.drop 0 = dktX2_init_0 := by decide +kernel
theorem dksX2_init_1 : cX2_init.data.toList.drop 22 = dktX2_init_1 := dk_seg dksX2_init_0 22 rfl rfl
theorem dksX2_init_2 : cX2_init.data.toList.drop 46 = dktX2_init_2 := dk_seg dksX2_init_1 24 rfl rfl
theorem dX2_init_0 : decode cX2_init 0 = .ok (.aload_n 0, 1) := dk_42 (dk_at dksX2_init_0 0 rfl rfl)
theorem dX2_init_1 : decode cX2_init 1 = .ok (.invokespecial 3, 3) := dk_183 0 3 (dk_at dksX2_init_0 1 rfl rfl)
theorem dX2_init_4 : decode cX2_init 4 = .ok (.aload_n 0, 1) := dk_42 (dk_at dksX2_init_0 4 rfl rfl)
theorem dX2_init_5 : decode cX2_init 5 = .ok (.new 9, 3) := dk_187 0 9 (dk_at dksX2_init_0 5 rfl rfl)
theorem dX2_init_8 : decode cX2_init 8 = .ok (.dup, 1) := dk_89 (dk_at dksX2_init_0 8 rfl rfl)
theorem dX2_init_9 : decode cX2_init 9 = .ok (.iconst 3, 1) := dk_6 (dk_at dksX2_init_0 9 rfl rfl)
theorem dX2_init_10 : decode cX2_init 10 = .ok (.invokespecial 11, 3) := dk_183 0 11 (dk_at dksX2_init_0 10 rfl rfl)
theorem dX2_init_13 : decode cX2_init 13 = .ok (.putfield 14, 3) := dk_181 0 14 (dk_at dksX2_init_0 13 rfl rfl)
theorem dX2_init_16 : decode cX2_init 16 = .ok (.aload_n 0, 1) := dk_42 (dk_at dksX2_init_0 16 rfl rfl)
theorem dX2_init_17 : decode cX2_init 17 = .ok (.new 9, 3) := dk_187 0 9 (dk_at dksX2_init_0 17 rfl rfl)
theorem dX2_init_20 : decode cX2_init 20 = .ok (.dup, 1) := dk_89 (dk_at dksX2_init_0 20 rfl rfl)
theorem dX2_init_21 : decode cX2_init 21 = .ok (.iconst 4, 1) := dk_7 (dk_at dksX2_init_0 21 rfl rfl)
theorem dX2_init_22 : decode cX2_init 22 = .ok (.invokespecial 11, 3) := dk_183 0 11 (dk_at dksX2_init_1 0 rfl rfl)
theorem dX2_init_25 : decode cX2_init 25 = .ok (.putfield 20, 3) := dk_181 0 20 (dk_at dksX2_init_1 3 rfl rfl)
theorem dX2_init_28 : decode cX2_init 28 = .ok (.aload_n 0, 1) := dk_42 (dk_at dksX2_init_1 6 rfl rfl)
theorem dX2_init_29 : decode cX2_init 29 = .ok (.new 9, 3) := dk_187 0 9 (dk_at dksX2_init_1 7 rfl rfl)
theorem dX2_init_32 : decode cX2_init 32 = .ok (.dup, 1) := dk_89 (dk_at dksX2_init_1 10 rfl rfl)
theorem dX2_init_33 : decode cX2_init 33 = .ok (.bipush 6, 2) := dk_16 6 (dk_at dksX2_init_1 11 rfl rfl)
theorem dX2_init_35 : decode cX2_init 35 = .ok (.invokespecial 11, 3) := dk_183 0 11 (dk_at dksX2_init_1 13 rfl rfl)
theorem dX2_init_38 : decode cX2_init 38 = .ok (.putfield 23, 3) := dk_181 0 23 (dk_at dksX2_init_1 16 rfl rfl)
theorem dX2_init_41 : decode cX2_init 41 = .ok (.aload_n 0, 1) := dk_42 (dk_at dksX2_init_1 19 rfl rfl)
theorem dX2_init_42 : decode cX2_init 42 = .ok (.new 26, 3) := dk_187 0 26 (dk_at dksX2_init_1 20 rfl rfl)
theorem dX2_init_45 : decode cX2_init 45 = .ok (.dup, 1) := dk_89 (dk_at dksX2_init_1 23 rfl rfl)
theorem dX2_init_46 : decode cX2_init 46 = .ok (.invokespecial 28, 3) := dk_183 0 28 (dk_at dksX2_init_2 0 rfl rfl)
theorem dX2_init_49 : decode cX2_init 49 = .ok (.putfield 29, 3) := dk_181 0 29 (dk_at dksX2_init_2 3 rfl rfl)
theorem dX2_init_52 : decode cX2_init 52 = .ok (.aload_n 0, 1) := dk_42 (dk_at dksX2_init_2 6 rfl rfl)
theorem dX2_init_53 : decode cX2_init 53 = .ok (.bipush 50, 2) := dk_16 50 (dk_at dksX2_init_2 7 rfl rfl)
theorem dX2_init_55 : decode cX2_init 55 = .ok (.putfield 33, 3) := dk_181 0 33 (dk_at dksX2_init_2 9 rfl rfl)
theorem dX2_init_58 : decode cX2_init 58 = .ok (.return_, 1) := dk_177 (dk_at dksX2_init_2 12 rfl rfl)
abbrev cX2_aim : ByteArray := prog_10_method_5_code
def yX2_aim : MethodName := ⟨RX2, "aim", "()LNoteImporter$Edition;"⟩
def dkwX2_aim_0 : List UInt8 := [42, 180, 0, 14, 42, 180, 0, 73, 182, 0, 93, 192, 0, 52, 176]
abbrev dktX2_aim_0 : List UInt8 := dkwX2_aim_0 ++ []
theorem dksX2_aim_0 : cX2_aim.data.toList.drop 0 = dktX2_aim_0 := by decide +kernel
theorem dX2_aim_0 : decode cX2_aim 0 = .ok (.aload_n 0, 1) := dk_42 (dk_at dksX2_aim_0 0 rfl rfl)
theorem dX2_aim_1 : decode cX2_aim 1 = .ok (.getfield 14, 3) := dk_180 0 14 (dk_at dksX2_aim_0 1 rfl rfl)
theorem dX2_aim_4 : decode cX2_aim 4 = .ok (.aload_n 0, 1) := dk_42 (dk_at dksX2_aim_0 4 rfl rfl)
theorem dX2_aim_5 : decode cX2_aim 5 = .ok (.getfield 73, 3) := dk_180 0 73 (dk_at dksX2_aim_0 5 rfl rfl)
theorem dX2_aim_8 : decode cX2_aim 8 = .ok (.invokevirtual 93, 3) := dk_182 0 93 (dk_at dksX2_aim_0 8 rfl rfl)
theorem dX2_aim_11 : decode cX2_aim 11 = .ok (.checkcast 52, 3) := dk_192 0 52 (dk_at dksX2_aim_0 11 rfl rfl)
theorem dX2_aim_14 : decode cX2_aim 14 = .ok (.areturn, 1) := dk_176 (dk_at dksX2_aim_0 14 rfl rfl)
abbrev cX2_copy : ByteArray := prog_10_method_2_code
def yX2_copy : MethodName := ⟨RX2, "copy", "()LNoteImporter$Library;"⟩
def dkwX2_copy_6 : List UInt8 := [180, 0, 33, 181, 0, 33, 43, 176]
abbrev dktX2_copy_6 : List UInt8 := dkwX2_copy_6 ++ []
def dkwX2_copy_5 : List UInt8 := [192, 0, 67, 78, 43, 45, 182, 0, 69, 167, 255, 232, 43, 42, 180, 0, 73, 181, 0, 73, 43, 42]
abbrev dktX2_copy_5 : List UInt8 := dkwX2_copy_5 ++ dktX2_copy_6
def dkwX2_copy_4 : List UInt8 := [42, 180, 0, 23, 182, 0, 38, 77, 44, 185, 0, 42, 1, 0, 153, 0, 21, 44, 185, 0, 48, 1, 0]
abbrev dktX2_copy_4 : List UInt8 := dkwX2_copy_4 ++ dktX2_copy_5
def dkwX2_copy_3 : List UInt8 := [185, 0, 48, 1, 0, 192, 0, 62, 78, 43, 180, 0, 20, 45, 182, 0, 64, 182, 0, 58, 87, 167, 255, 225]
abbrev dktX2_copy_3 : List UInt8 := dkwX2_copy_3 ++ dktX2_copy_4
def dkwX2_copy_2 : List UInt8 := [87, 167, 255, 225, 42, 180, 0, 20, 182, 0, 38, 77, 44, 185, 0, 42, 1, 0, 153, 0, 28, 44]
abbrev dktX2_copy_2 : List UInt8 := dkwX2_copy_2 ++ dktX2_copy_3
def dkwX2_copy_1 : List UInt8 := [153, 0, 28, 44, 185, 0, 48, 1, 0, 192, 0, 52, 78, 43, 180, 0, 14, 45, 182, 0, 54, 182, 0, 58]
abbrev dktX2_copy_1 : List UInt8 := dkwX2_copy_1 ++ dktX2_copy_2
def dkwX2_copy_0 : List UInt8 := [187, 0, 15, 89, 183, 0, 37, 76, 42, 180, 0, 14, 182, 0, 38, 77, 44, 185, 0, 42, 1, 0]
abbrev dktX2_copy_0 : List UInt8 := dkwX2_copy_0 ++ dktX2_copy_1
theorem dksX2_copy_0 : cX2_copy.data.toList.drop 0 = dktX2_copy_0 := by decide +kernel
theorem dksX2_copy_1 : cX2_copy.data.toList.drop 22 = dktX2_copy_1 := dk_seg dksX2_copy_0 22 rfl rfl
theorem dksX2_copy_2 : cX2_copy.data.toList.drop 46 = dktX2_copy_2 := dk_seg dksX2_copy_1 24 rfl rfl
theorem dksX2_copy_3 : cX2_copy.data.toList.drop 68 = dktX2_copy_3 := dk_seg dksX2_copy_2 22 rfl rfl
theorem dksX2_copy_4 : cX2_copy.data.toList.drop 92 = dktX2_copy_4 := dk_seg dksX2_copy_3 24 rfl rfl
theorem dksX2_copy_5 : cX2_copy.data.toList.drop 115 = dktX2_copy_5 := dk_seg dksX2_copy_4 23 rfl rfl
theorem dksX2_copy_6 : cX2_copy.data.toList.drop 137 = dktX2_copy_6 := dk_seg dksX2_copy_5 22 rfl rfl
theorem dX2_copy_0 : decode cX2_copy 0 = .ok (.new 15, 3) := dk_187 0 15 (dk_at dksX2_copy_0 0 rfl rfl)
theorem dX2_copy_3 : decode cX2_copy 3 = .ok (.dup, 1) := dk_89 (dk_at dksX2_copy_0 3 rfl rfl)
theorem dX2_copy_4 : decode cX2_copy 4 = .ok (.invokespecial 37, 3) := dk_183 0 37 (dk_at dksX2_copy_0 4 rfl rfl)
theorem dX2_copy_7 : decode cX2_copy 7 = .ok (.astore_n 1, 1) := dk_76 (dk_at dksX2_copy_0 7 rfl rfl)
theorem dX2_copy_8 : decode cX2_copy 8 = .ok (.aload_n 0, 1) := dk_42 (dk_at dksX2_copy_0 8 rfl rfl)
theorem dX2_copy_9 : decode cX2_copy 9 = .ok (.getfield 14, 3) := dk_180 0 14 (dk_at dksX2_copy_0 9 rfl rfl)
theorem dX2_copy_12 : decode cX2_copy 12 = .ok (.invokevirtual 38, 3) := dk_182 0 38 (dk_at dksX2_copy_0 12 rfl rfl)
theorem dX2_copy_15 : decode cX2_copy 15 = .ok (.astore_n 2, 1) := dk_77 (dk_at dksX2_copy_0 15 rfl rfl)
theorem dX2_copy_16 : decode cX2_copy 16 = .ok (.aload_n 2, 1) := dk_44 (dk_at dksX2_copy_0 16 rfl rfl)
theorem dX2_copy_17 : decode cX2_copy 17 = .ok (.invokeinterface 42 1, 5) := by decide +kernel
theorem dX2_copy_22 : decode cX2_copy 22 = .ok (.ifCond .eq 28, 3) := dk_153 0 28 (dk_at dksX2_copy_1 0 rfl rfl)
theorem dX2_copy_25 : decode cX2_copy 25 = .ok (.aload_n 2, 1) := dk_44 (dk_at dksX2_copy_1 3 rfl rfl)
theorem dX2_copy_26 : decode cX2_copy 26 = .ok (.invokeinterface 48 1, 5) := by decide +kernel
theorem dX2_copy_31 : decode cX2_copy 31 = .ok (.checkcast 52, 3) := dk_192 0 52 (dk_at dksX2_copy_1 9 rfl rfl)
theorem dX2_copy_34 : decode cX2_copy 34 = .ok (.astore_n 3, 1) := dk_78 (dk_at dksX2_copy_1 12 rfl rfl)
theorem dX2_copy_35 : decode cX2_copy 35 = .ok (.aload_n 1, 1) := dk_43 (dk_at dksX2_copy_1 13 rfl rfl)
theorem dX2_copy_36 : decode cX2_copy 36 = .ok (.getfield 14, 3) := dk_180 0 14 (dk_at dksX2_copy_1 14 rfl rfl)
theorem dX2_copy_39 : decode cX2_copy 39 = .ok (.aload_n 3, 1) := dk_45 (dk_at dksX2_copy_1 17 rfl rfl)
theorem dX2_copy_40 : decode cX2_copy 40 = .ok (.invokevirtual 54, 3) := dk_182 0 54 (dk_at dksX2_copy_1 18 rfl rfl)
theorem dX2_copy_43 : decode cX2_copy 43 = .ok (.invokevirtual 58, 3) := dk_182 0 58 (dk_at dksX2_copy_1 21 rfl rfl)
theorem dX2_copy_46 : decode cX2_copy 46 = .ok (.pop, 1) := dk_87 (dk_at dksX2_copy_2 0 rfl rfl)
theorem dX2_copy_47 : decode cX2_copy 47 = .ok (.goto (-31), 3) := dk_167 255 225 (dk_at dksX2_copy_2 1 rfl rfl)
theorem dX2_copy_50 : decode cX2_copy 50 = .ok (.aload_n 0, 1) := dk_42 (dk_at dksX2_copy_2 4 rfl rfl)
theorem dX2_copy_51 : decode cX2_copy 51 = .ok (.getfield 20, 3) := dk_180 0 20 (dk_at dksX2_copy_2 5 rfl rfl)
theorem dX2_copy_54 : decode cX2_copy 54 = .ok (.invokevirtual 38, 3) := dk_182 0 38 (dk_at dksX2_copy_2 8 rfl rfl)
theorem dX2_copy_57 : decode cX2_copy 57 = .ok (.astore_n 2, 1) := dk_77 (dk_at dksX2_copy_2 11 rfl rfl)
theorem dX2_copy_58 : decode cX2_copy 58 = .ok (.aload_n 2, 1) := dk_44 (dk_at dksX2_copy_2 12 rfl rfl)
theorem dX2_copy_59 : decode cX2_copy 59 = .ok (.invokeinterface 42 1, 5) := by decide +kernel
theorem dX2_copy_64 : decode cX2_copy 64 = .ok (.ifCond .eq 28, 3) := dk_153 0 28 (dk_at dksX2_copy_2 18 rfl rfl)
theorem dX2_copy_67 : decode cX2_copy 67 = .ok (.aload_n 2, 1) := dk_44 (dk_at dksX2_copy_2 21 rfl rfl)
theorem dX2_copy_68 : decode cX2_copy 68 = .ok (.invokeinterface 48 1, 5) := by decide +kernel
theorem dX2_copy_73 : decode cX2_copy 73 = .ok (.checkcast 62, 3) := dk_192 0 62 (dk_at dksX2_copy_3 5 rfl rfl)
theorem dX2_copy_76 : decode cX2_copy 76 = .ok (.astore_n 3, 1) := dk_78 (dk_at dksX2_copy_3 8 rfl rfl)
theorem dX2_copy_77 : decode cX2_copy 77 = .ok (.aload_n 1, 1) := dk_43 (dk_at dksX2_copy_3 9 rfl rfl)
theorem dX2_copy_78 : decode cX2_copy 78 = .ok (.getfield 20, 3) := dk_180 0 20 (dk_at dksX2_copy_3 10 rfl rfl)
theorem dX2_copy_81 : decode cX2_copy 81 = .ok (.aload_n 3, 1) := dk_45 (dk_at dksX2_copy_3 13 rfl rfl)
theorem dX2_copy_82 : decode cX2_copy 82 = .ok (.invokevirtual 64, 3) := dk_182 0 64 (dk_at dksX2_copy_3 14 rfl rfl)
theorem dX2_copy_85 : decode cX2_copy 85 = .ok (.invokevirtual 58, 3) := dk_182 0 58 (dk_at dksX2_copy_3 17 rfl rfl)
theorem dX2_copy_88 : decode cX2_copy 88 = .ok (.pop, 1) := dk_87 (dk_at dksX2_copy_3 20 rfl rfl)
theorem dX2_copy_89 : decode cX2_copy 89 = .ok (.goto (-31), 3) := dk_167 255 225 (dk_at dksX2_copy_3 21 rfl rfl)
theorem dX2_copy_92 : decode cX2_copy 92 = .ok (.aload_n 0, 1) := dk_42 (dk_at dksX2_copy_4 0 rfl rfl)
theorem dX2_copy_93 : decode cX2_copy 93 = .ok (.getfield 23, 3) := dk_180 0 23 (dk_at dksX2_copy_4 1 rfl rfl)
theorem dX2_copy_96 : decode cX2_copy 96 = .ok (.invokevirtual 38, 3) := dk_182 0 38 (dk_at dksX2_copy_4 4 rfl rfl)
theorem dX2_copy_99 : decode cX2_copy 99 = .ok (.astore_n 2, 1) := dk_77 (dk_at dksX2_copy_4 7 rfl rfl)
theorem dX2_copy_100 : decode cX2_copy 100 = .ok (.aload_n 2, 1) := dk_44 (dk_at dksX2_copy_4 8 rfl rfl)
theorem dX2_copy_101 : decode cX2_copy 101 = .ok (.invokeinterface 42 1, 5) := by decide +kernel
theorem dX2_copy_106 : decode cX2_copy 106 = .ok (.ifCond .eq 21, 3) := dk_153 0 21 (dk_at dksX2_copy_4 14 rfl rfl)
theorem dX2_copy_109 : decode cX2_copy 109 = .ok (.aload_n 2, 1) := dk_44 (dk_at dksX2_copy_4 17 rfl rfl)
theorem dX2_copy_110 : decode cX2_copy 110 = .ok (.invokeinterface 48 1, 5) := by decide +kernel
theorem dX2_copy_115 : decode cX2_copy 115 = .ok (.checkcast 67, 3) := dk_192 0 67 (dk_at dksX2_copy_5 0 rfl rfl)
theorem dX2_copy_118 : decode cX2_copy 118 = .ok (.astore_n 3, 1) := dk_78 (dk_at dksX2_copy_5 3 rfl rfl)
theorem dX2_copy_119 : decode cX2_copy 119 = .ok (.aload_n 1, 1) := dk_43 (dk_at dksX2_copy_5 4 rfl rfl)
theorem dX2_copy_120 : decode cX2_copy 120 = .ok (.aload_n 3, 1) := dk_45 (dk_at dksX2_copy_5 5 rfl rfl)
theorem dX2_copy_121 : decode cX2_copy 121 = .ok (.invokevirtual 69, 3) := dk_182 0 69 (dk_at dksX2_copy_5 6 rfl rfl)
theorem dX2_copy_124 : decode cX2_copy 124 = .ok (.goto (-24), 3) := dk_167 255 232 (dk_at dksX2_copy_5 9 rfl rfl)
theorem dX2_copy_127 : decode cX2_copy 127 = .ok (.aload_n 1, 1) := dk_43 (dk_at dksX2_copy_5 12 rfl rfl)
theorem dX2_copy_128 : decode cX2_copy 128 = .ok (.aload_n 0, 1) := dk_42 (dk_at dksX2_copy_5 13 rfl rfl)
theorem dX2_copy_129 : decode cX2_copy 129 = .ok (.getfield 73, 3) := dk_180 0 73 (dk_at dksX2_copy_5 14 rfl rfl)
theorem dX2_copy_132 : decode cX2_copy 132 = .ok (.putfield 73, 3) := dk_181 0 73 (dk_at dksX2_copy_5 17 rfl rfl)
theorem dX2_copy_135 : decode cX2_copy 135 = .ok (.aload_n 1, 1) := dk_43 (dk_at dksX2_copy_5 20 rfl rfl)
theorem dX2_copy_136 : decode cX2_copy 136 = .ok (.aload_n 0, 1) := dk_42 (dk_at dksX2_copy_5 21 rfl rfl)
theorem dX2_copy_137 : decode cX2_copy 137 = .ok (.getfield 33, 3) := dk_180 0 33 (dk_at dksX2_copy_6 0 rfl rfl)
theorem dX2_copy_140 : decode cX2_copy 140 = .ok (.putfield 33, 3) := dk_181 0 33 (dk_at dksX2_copy_6 3 rfl rfl)
theorem dX2_copy_143 : decode cX2_copy 143 = .ok (.aload_n 1, 1) := dk_43 (dk_at dksX2_copy_6 6 rfl rfl)
theorem dX2_copy_144 : decode cX2_copy 144 = .ok (.areturn, 1) := dk_176 (dk_at dksX2_copy_6 7 rfl rfl)
abbrev cX2_addReader : ByteArray := prog_10_method_3_code
def yX2_addReader : MethodName := ⟨RX2, "addReader", "(Ljava/lang/String;)V"⟩
def dkwX2_addReader_1 : List UInt8 := [182, 0, 58, 87, 177]
abbrev dktX2_addReader_1 : List UInt8 := dkwX2_addReader_1 ++ []
def dkwX2_addReader_0 : List UInt8 := [42, 180, 0, 29, 43, 42, 180, 0, 23, 182, 0, 76, 184, 0, 80, 182, 0, 86, 87, 42, 180, 0, 23, 43]
abbrev dktX2_addReader_0 : List UInt8 := dkwX2_addReader_0 ++ dktX2_addReader_1
theorem dksX2_addReader_0 : cX2_addReader.data.toList.drop 0 = dktX2_addReader_0 := by decide +kernel
theorem dksX2_addReader_1 : cX2_addReader.data.toList.drop 24 = dktX2_addReader_1 := dk_seg dksX2_addReader_0 24 rfl rfl
theorem dX2_addReader_0 : decode cX2_addReader 0 = .ok (.aload_n 0, 1) := dk_42 (dk_at dksX2_addReader_0 0 rfl rfl)
theorem dX2_addReader_1 : decode cX2_addReader 1 = .ok (.getfield 29, 3) := dk_180 0 29 (dk_at dksX2_addReader_0 1 rfl rfl)
theorem dX2_addReader_4 : decode cX2_addReader 4 = .ok (.aload_n 1, 1) := dk_43 (dk_at dksX2_addReader_0 4 rfl rfl)
theorem dX2_addReader_5 : decode cX2_addReader 5 = .ok (.aload_n 0, 1) := dk_42 (dk_at dksX2_addReader_0 5 rfl rfl)
theorem dX2_addReader_6 : decode cX2_addReader 6 = .ok (.getfield 23, 3) := dk_180 0 23 (dk_at dksX2_addReader_0 6 rfl rfl)
theorem dX2_addReader_9 : decode cX2_addReader 9 = .ok (.invokevirtual 76, 3) := dk_182 0 76 (dk_at dksX2_addReader_0 9 rfl rfl)
theorem dX2_addReader_12 : decode cX2_addReader 12 = .ok (.invokestatic 80, 3) := dk_184 0 80 (dk_at dksX2_addReader_0 12 rfl rfl)
theorem dX2_addReader_15 : decode cX2_addReader 15 = .ok (.invokevirtual 86, 3) := dk_182 0 86 (dk_at dksX2_addReader_0 15 rfl rfl)
theorem dX2_addReader_18 : decode cX2_addReader 18 = .ok (.pop, 1) := dk_87 (dk_at dksX2_addReader_0 18 rfl rfl)
theorem dX2_addReader_19 : decode cX2_addReader 19 = .ok (.aload_n 0, 1) := dk_42 (dk_at dksX2_addReader_0 19 rfl rfl)
theorem dX2_addReader_20 : decode cX2_addReader 20 = .ok (.getfield 23, 3) := dk_180 0 23 (dk_at dksX2_addReader_0 20 rfl rfl)
theorem dX2_addReader_23 : decode cX2_addReader 23 = .ok (.aload_n 1, 1) := dk_43 (dk_at dksX2_addReader_0 23 rfl rfl)
theorem dX2_addReader_24 : decode cX2_addReader 24 = .ok (.invokevirtual 58, 3) := dk_182 0 58 (dk_at dksX2_addReader_1 0 rfl rfl)
theorem dX2_addReader_27 : decode cX2_addReader 27 = .ok (.pop, 1) := dk_87 (dk_at dksX2_addReader_1 3 rfl rfl)
theorem dX2_addReader_28 : decode cX2_addReader 28 = .ok (.return_, 1) := dk_177 (dk_at dksX2_addReader_1 4 rfl rfl)
abbrev cX2_addEdition : ByteArray := prog_10_method_4_code
def yX2_addEdition : MethodName := ⟨RX2, "addEdition", "(LNoteImporter$Edition;)I"⟩
def dkwX2_addEdition_0 : List UInt8 := [43, 182, 0, 90, 42, 180, 0, 14, 43, 182, 0, 58, 87, 42, 180, 0, 14, 182, 0, 76, 4, 100, 172]
abbrev dktX2_addEdition_0 : List UInt8 := dkwX2_addEdition_0 ++ []
theorem dksX2_addEdition_0 : cX2_addEdition.data.toList.drop 0 = dktX2_addEdition_0 := by decide +kernel
theorem dX2_addEdition_0 : decode cX2_addEdition 0 = .ok (.aload_n 1, 1) := dk_43 (dk_at dksX2_addEdition_0 0 rfl rfl)
theorem dX2_addEdition_1 : decode cX2_addEdition 1 = .ok (.invokevirtual 90, 3) := dk_182 0 90 (dk_at dksX2_addEdition_0 1 rfl rfl)
theorem dX2_addEdition_4 : decode cX2_addEdition 4 = .ok (.aload_n 0, 1) := dk_42 (dk_at dksX2_addEdition_0 4 rfl rfl)
theorem dX2_addEdition_5 : decode cX2_addEdition 5 = .ok (.getfield 14, 3) := dk_180 0 14 (dk_at dksX2_addEdition_0 5 rfl rfl)
theorem dX2_addEdition_8 : decode cX2_addEdition 8 = .ok (.aload_n 1, 1) := dk_43 (dk_at dksX2_addEdition_0 8 rfl rfl)
theorem dX2_addEdition_9 : decode cX2_addEdition 9 = .ok (.invokevirtual 58, 3) := dk_182 0 58 (dk_at dksX2_addEdition_0 9 rfl rfl)
theorem dX2_addEdition_12 : decode cX2_addEdition 12 = .ok (.pop, 1) := dk_87 (dk_at dksX2_addEdition_0 12 rfl rfl)
theorem dX2_addEdition_13 : decode cX2_addEdition 13 = .ok (.aload_n 0, 1) := dk_42 (dk_at dksX2_addEdition_0 13 rfl rfl)
theorem dX2_addEdition_14 : decode cX2_addEdition 14 = .ok (.getfield 14, 3) := dk_180 0 14 (dk_at dksX2_addEdition_0 14 rfl rfl)
theorem dX2_addEdition_17 : decode cX2_addEdition 17 = .ok (.invokevirtual 76, 3) := dk_182 0 76 (dk_at dksX2_addEdition_0 17 rfl rfl)
theorem dX2_addEdition_20 : decode cX2_addEdition 20 = .ok (.iconst 1, 1) := dk_4 (dk_at dksX2_addEdition_0 20 rfl rfl)
theorem dX2_addEdition_21 : decode cX2_addEdition 21 = .ok (.isub, 1) := dk_100 (dk_at dksX2_addEdition_0 21 rfl rfl)
theorem dX2_addEdition_22 : decode cX2_addEdition 22 = .ok (.ireturn, 1) := dk_172 (dk_at dksX2_addEdition_0 22 rfl rfl)
theorem q121 : (Jvm.Cond.initialized "NoteImporter$Library") ∈ lw_all := lw_g (lw_at lw_m1 2 rfl) rfl
theorem q195 : (Jvm.Cond.instantiable "NoteImporter$Library" (6 : Nat)) ∈ lw_all := lw_g (lw_at lw_m1 76 rfl) rfl
theorem q197 : (Jvm.Cond.instanceMethod ({ cls := "NoteImporter$Library", name := "<init>", desc := "()V" } : Jvm.MethodName)) ∈ lw_all := lw_g (lw_at lw_m1 78 rfl) rfl
theorem q198 : (Jvm.Cond.code ({ cls := "NoteImporter$Library", name := "<init>", desc := "()V" } : Jvm.MethodName) prog_10_method_1_code (1 : Nat) (Option.none : Option Jvm.ClassFile.FieldType)) ∈ lw_all := lw_g (lw_at lw_m1 79 rfl) rfl
theorem q199 : (Jvm.Cond.methodLink "NoteImporter$Library" (3 : Nat) ({ cls := "java/lang/Object", name := "<init>", desc := "()V" } : Jvm.MethodName)) ∈ lw_all := lw_g (lw_at lw_m1 80 rfl) rfl
theorem q200 : (Jvm.Cond.classLink "NoteImporter$Library" (9 : Nat) "java/util/ArrayList") ∈ lw_all := lw_g (lw_at lw_m1 81 rfl) rfl
theorem q202 : (Jvm.Cond.methodLink "NoteImporter$Library" (11 : Nat) ({ cls := "java/util/ArrayList", name := "<init>", desc := "(I)V" } : Jvm.MethodName)) ∈ lw_all := lw_g (lw_at lw_m1 83 rfl) rfl
theorem q551 : (Jvm.Cond.classLink "NoteImporter$Library" (26 : Nat) "java/util/HashMap") ∈ lw_all := lw_g (lw_at lw_m2 192 rfl) rfl
theorem q553 : (Jvm.Cond.methodLink "NoteImporter$Library" (28 : Nat) ({ cls := "java/util/HashMap", name := "<init>", desc := "()V" } : Jvm.MethodName)) ∈ lw_all := lw_g (lw_at lw_m2 194 rfl) rfl
theorem q589 : (Jvm.Cond.fieldLink "NoteImporter$Library" (14 : Nat) "NoteImporter$Library" "editions" "Ljava/util/ArrayList;") ∈ lw_all := lw_g (lw_at lw_m2 230 rfl) rfl
theorem q593 : (Jvm.Cond.fieldLink "NoteImporter$Library" (20 : Nat) "NoteImporter$Library" "notes" "Ljava/util/ArrayList;") ∈ lw_all := lw_g (lw_at lw_m2 234 rfl) rfl
theorem q597 : (Jvm.Cond.fieldLink "NoteImporter$Library" (23 : Nat) "NoteImporter$Library" "readers" "Ljava/util/ArrayList;") ∈ lw_all := lw_g (lw_at lw_m2 238 rfl) rfl
theorem q600 : (Jvm.Cond.fieldLink "NoteImporter$Library" (29 : Nat) "NoteImporter$Library" "numbers" "Ljava/util/HashMap;") ∈ lw_all := lw_g (lw_at lw_m3 1 rfl) rfl
theorem q603 : (Jvm.Cond.fieldLink "NoteImporter$Library" (73 : Nat) "NoteImporter$Library" "target" "I") ∈ lw_all := lw_g (lw_at lw_m3 4 rfl) rfl
theorem q606 : (Jvm.Cond.fieldLink "NoteImporter$Library" (33 : Nat) "NoteImporter$Library" "threshold" "I") ∈ lw_all := lw_g (lw_at lw_m3 7 rfl) rfl
theorem q609 : (Jvm.Cond.laysFinal "NoteImporter$Library" "NoteImporter$Library" "editions" "Ljava/util/ArrayList;") ∈ lw_all := lw_g (lw_at lw_m3 10 rfl) rfl
theorem q610 : (Jvm.Cond.soleField "NoteImporter$Library" "editions") ∈ lw_all := lw_g (lw_at lw_m3 11 rfl) rfl
theorem q611 : (Jvm.Cond.laysFinal "NoteImporter$Library" "NoteImporter$Library" "notes" "Ljava/util/ArrayList;") ∈ lw_all := lw_g (lw_at lw_m3 12 rfl) rfl
theorem q612 : (Jvm.Cond.soleField "NoteImporter$Library" "notes") ∈ lw_all := lw_g (lw_at lw_m3 13 rfl) rfl
theorem q613 : (Jvm.Cond.laysFinal "NoteImporter$Library" "NoteImporter$Library" "readers" "Ljava/util/ArrayList;") ∈ lw_all := lw_g (lw_at lw_m3 14 rfl) rfl
theorem q614 : (Jvm.Cond.soleField "NoteImporter$Library" "readers") ∈ lw_all := lw_g (lw_at lw_m3 15 rfl) rfl
theorem q615 : (Jvm.Cond.laysFinal "NoteImporter$Library" "NoteImporter$Library" "numbers" "Ljava/util/HashMap;") ∈ lw_all := lw_g (lw_at lw_m3 16 rfl) rfl
theorem q616 : (Jvm.Cond.soleField "NoteImporter$Library" "numbers") ∈ lw_all := lw_g (lw_at lw_m3 17 rfl) rfl
theorem q617 : (Jvm.Cond.lays "NoteImporter$Library" "NoteImporter$Library" "target" "I") ∈ lw_all := lw_g (lw_at lw_m3 18 rfl) rfl
theorem q618 : (Jvm.Cond.soleField "NoteImporter$Library" "target") ∈ lw_all := lw_g (lw_at lw_m3 19 rfl) rfl
theorem q619 : (Jvm.Cond.lays "NoteImporter$Library" "NoteImporter$Library" "threshold" "I") ∈ lw_all := lw_g (lw_at lw_m3 20 rfl) rfl
theorem q620 : (Jvm.Cond.soleField "NoteImporter$Library" "threshold") ∈ lw_all := lw_g (lw_at lw_m3 21 rfl) rfl
theorem q621 : (Jvm.Cond.superclass "NoteImporter$Library" "java/lang/Object") ∈ lw_all := lw_g (lw_at lw_m3 22 rfl) rfl
theorem q696 : (Jvm.Cond.instanceMethod ({ cls := "NoteImporter$Library", name := "aim", desc := "()LNoteImporter$Edition;" } : Jvm.MethodName)) ∈ lw_all := lw_g (lw_at lw_m3 97 rfl) rfl
theorem q697 : (Jvm.Cond.selects "NoteImporter$Library" ({ cls := "NoteImporter$Library", name := "aim", desc := "()LNoteImporter$Edition;" } : Jvm.MethodName) ({ cls := "NoteImporter$Library", name := "aim", desc := "()LNoteImporter$Edition;" } : Jvm.MethodName)) ∈ lw_all := lw_g (lw_at lw_m3 98 rfl) rfl
theorem q698 : (Jvm.Cond.code ({ cls := "NoteImporter$Library", name := "aim", desc := "()LNoteImporter$Edition;" } : Jvm.MethodName) prog_10_method_5_code (1 : Nat) (Option.some (Jvm.ClassFile.FieldType.object "NoteImporter$Edition"))) ∈ lw_all := lw_g (lw_at lw_m3 99 rfl) rfl
theorem q699 : (Jvm.Cond.methodLink "NoteImporter$Library" (93 : Nat) ({ cls := "java/util/ArrayList", name := "get", desc := "(I)Ljava/lang/Object;" } : Jvm.MethodName)) ∈ lw_all := lw_g (lw_at lw_m3 100 rfl) rfl
theorem q700 : (Jvm.Cond.classLink "NoteImporter$Library" (52 : Nat) "NoteImporter$Edition") ∈ lw_all := lw_g (lw_at lw_m3 101 rfl) rfl
theorem q853 : (Jvm.Cond.selects "NoteImporter$Library" ({ cls := "java/lang/Object", name := "getClass", desc := "()Ljava/lang/Class;" } : Jvm.MethodName) ({ cls := "java/lang/Object", name := "getClass", desc := "()Ljava/lang/Class;" } : Jvm.MethodName)) ∈ lw_all := lw_g (lw_at lw_m4 14 rfl) rfl
theorem q1193 : (Jvm.Cond.selects "NoteImporter$Library" ({ cls := "java/lang/Object", name := "hashCode", desc := "()I" } : Jvm.MethodName) ({ cls := "java/lang/Object", name := "hashCode", desc := "()I" } : Jvm.MethodName)) ∈ lw_all := lw_g (lw_at lw_m5 114 rfl) rfl
theorem q1295 : (Jvm.Cond.selects "NoteImporter$Library" ({ cls := "java/lang/Object", name := "equals", desc := "(Ljava/lang/Object;)Z" } : Jvm.MethodName) ({ cls := "java/lang/Object", name := "equals", desc := "(Ljava/lang/Object;)Z" } : Jvm.MethodName)) ∈ lw_all := lw_g (lw_at lw_m5 216 rfl) rfl
theorem q1839 : (Jvm.Cond.instanceMethod ({ cls := "NoteImporter$Library", name := "copy", desc := "()LNoteImporter$Library;" } : Jvm.MethodName)) ∈ lw_all := lw_g (lw_at lw_m8 40 rfl) rfl
theorem q1840 : (Jvm.Cond.selects "NoteImporter$Library" ({ cls := "NoteImporter$Library", name := "copy", desc := "()LNoteImporter$Library;" } : Jvm.MethodName) ({ cls := "NoteImporter$Library", name := "copy", desc := "()LNoteImporter$Library;" } : Jvm.MethodName)) ∈ lw_all := lw_g (lw_at lw_m8 41 rfl) rfl
theorem q1841 : (Jvm.Cond.code ({ cls := "NoteImporter$Library", name := "copy", desc := "()LNoteImporter$Library;" } : Jvm.MethodName) prog_10_method_2_code (4 : Nat) (Option.some (Jvm.ClassFile.FieldType.object "NoteImporter$Library"))) ∈ lw_all := lw_g (lw_at lw_m8 42 rfl) rfl
theorem q1842 : (Jvm.Cond.classLink "NoteImporter$Library" (15 : Nat) "NoteImporter$Library") ∈ lw_all := lw_g (lw_at lw_m8 43 rfl) rfl
theorem q1843 : (Jvm.Cond.methodLink "NoteImporter$Library" (37 : Nat) ({ cls := "NoteImporter$Library", name := "<init>", desc := "()V" } : Jvm.MethodName)) ∈ lw_all := lw_g (lw_at lw_m8 44 rfl) rfl
theorem q1844 : (Jvm.Cond.methodLink "NoteImporter$Library" (38 : Nat) ({ cls := "java/util/ArrayList", name := "iterator", desc := "()Ljava/util/Iterator;" } : Jvm.MethodName)) ∈ lw_all := lw_g (lw_at lw_m8 45 rfl) rfl
theorem q1845 : (Jvm.Cond.interfaceEntry "NoteImporter$Library" (42 : Nat)) ∈ lw_tbl := lw_at lw_m8 46 rfl
theorem q1846 : (Jvm.Cond.methodLink "NoteImporter$Library" (42 : Nat) ({ cls := "java/util/Iterator", name := "hasNext", desc := "()Z" } : Jvm.MethodName)) ∈ lw_all := lw_g (lw_at lw_m8 47 rfl) rfl
theorem q1847 : (Jvm.Cond.interfaceEntry "NoteImporter$Library" (48 : Nat)) ∈ lw_tbl := lw_at lw_m8 48 rfl
theorem q1848 : (Jvm.Cond.methodLink "NoteImporter$Library" (48 : Nat) ({ cls := "java/util/Iterator", name := "next", desc := "()Ljava/lang/Object;" } : Jvm.MethodName)) ∈ lw_all := lw_g (lw_at lw_m8 49 rfl) rfl
theorem q1849 : (Jvm.Cond.methodLink "NoteImporter$Library" (54 : Nat) ({ cls := "NoteImporter$Edition", name := "copy", desc := "()LNoteImporter$Edition;" } : Jvm.MethodName)) ∈ lw_all := lw_g (lw_at lw_m8 50 rfl) rfl
theorem q1999 : (Jvm.Cond.methodLink "NoteImporter$Library" (58 : Nat) ({ cls := "java/util/ArrayList", name := "add", desc := "(Ljava/lang/Object;)Z" } : Jvm.MethodName)) ∈ lw_all := lw_g (lw_at lw_m8 200 rfl) rfl
theorem q2000 : (Jvm.Cond.classLink "NoteImporter$Library" (62 : Nat) "NoteImporter$Note") ∈ lw_all := lw_g (lw_at lw_m8 201 rfl) rfl
theorem q2001 : (Jvm.Cond.methodLink "NoteImporter$Library" (64 : Nat) ({ cls := "NoteImporter$Note", name := "copy", desc := "()LNoteImporter$Note;" } : Jvm.MethodName)) ∈ lw_all := lw_g (lw_at lw_m8 202 rfl) rfl
theorem q2330 : (Jvm.Cond.classLink "NoteImporter$Library" (67 : Nat) "java/lang/String") ∈ lw_all := lw_g (lw_at lw_m10 51 rfl) rfl
theorem q2331 : (Jvm.Cond.methodLink "NoteImporter$Library" (69 : Nat) ({ cls := "NoteImporter$Library", name := "addReader", desc := "(Ljava/lang/String;)V" } : Jvm.MethodName)) ∈ lw_all := lw_g (lw_at lw_m10 52 rfl) rfl
theorem q2332 : (Jvm.Cond.instanceMethod ({ cls := "NoteImporter$Library", name := "addReader", desc := "(Ljava/lang/String;)V" } : Jvm.MethodName)) ∈ lw_all := lw_g (lw_at lw_m10 53 rfl) rfl
theorem q2333 : (Jvm.Cond.selects "NoteImporter$Library" ({ cls := "NoteImporter$Library", name := "addReader", desc := "(Ljava/lang/String;)V" } : Jvm.MethodName) ({ cls := "NoteImporter$Library", name := "addReader", desc := "(Ljava/lang/String;)V" } : Jvm.MethodName)) ∈ lw_all := lw_g (lw_at lw_m10 54 rfl) rfl
theorem q2334 : (Jvm.Cond.code ({ cls := "NoteImporter$Library", name := "addReader", desc := "(Ljava/lang/String;)V" } : Jvm.MethodName) prog_10_method_3_code (2 : Nat) (Option.none : Option Jvm.ClassFile.FieldType)) ∈ lw_all := lw_g (lw_at lw_m10 55 rfl) rfl
theorem q2335 : (Jvm.Cond.methodLink "NoteImporter$Library" (76 : Nat) ({ cls := "java/util/ArrayList", name := "size", desc := "()I" } : Jvm.MethodName)) ∈ lw_all := lw_g (lw_at lw_m10 56 rfl) rfl
theorem q2336 : (Jvm.Cond.methodLink "NoteImporter$Library" (80 : Nat) ({ cls := "java/lang/Integer", name := "valueOf", desc := "(I)Ljava/lang/Integer;" } : Jvm.MethodName)) ∈ lw_all := lw_g (lw_at lw_m10 57 rfl) rfl
theorem q2337 : (Jvm.Cond.methodLink "NoteImporter$Library" (86 : Nat) ({ cls := "java/util/HashMap", name := "put", desc := "(Ljava/lang/Object;Ljava/lang/Object;)Ljava/lang/Object;" } : Jvm.MethodName)) ∈ lw_all := lw_g (lw_at lw_m10 58 rfl) rfl
theorem q2509 : (Jvm.Cond.instanceMethod ({ cls := "NoteImporter$Library", name := "addEdition", desc := "(LNoteImporter$Edition;)I" } : Jvm.MethodName)) ∈ lw_all := lw_g (lw_at lw_m10 230 rfl) rfl
theorem q2510 : (Jvm.Cond.selects "NoteImporter$Library" ({ cls := "NoteImporter$Library", name := "addEdition", desc := "(LNoteImporter$Edition;)I" } : Jvm.MethodName) ({ cls := "NoteImporter$Library", name := "addEdition", desc := "(LNoteImporter$Edition;)I" } : Jvm.MethodName)) ∈ lw_all := lw_g (lw_at lw_m10 231 rfl) rfl
theorem q2511 : (Jvm.Cond.code ({ cls := "NoteImporter$Library", name := "addEdition", desc := "(LNoteImporter$Edition;)I" } : Jvm.MethodName) prog_10_method_4_code (2 : Nat) (Option.some Jvm.ClassFile.FieldType.int)) ∈ lw_all := lw_g (lw_at lw_m10 232 rfl) rfl
theorem q2512 : (Jvm.Cond.methodLink "NoteImporter$Library" (90 : Nat) ({ cls := "NoteImporter$Edition", name := "lay", desc := "()V" } : Jvm.MethodName)) ∈ lw_all := lw_g (lw_at lw_m10 233 rfl) rfl
theorem q3790 : (Jvm.Cond.castable "NoteImporter$Library" "java/lang/Object") ∈ lw_tbl := lw_at lw_m16 71 rfl
theorem in_X2 : ∀ w ∈ wsX20, w ∈ lw_all := lw_in wsX20 [609, 611, 613, 615, 617, 619] (by decide +kernel) (by decide +kernel)

/-! NoteImporter$Parser -/
set_option maxRecDepth 100000
def RX4 : String := "NoteImporter$Parser"
def TX4 : u_T := fun k => match k with
  | 0 => ("NoteImporter$Parser", "length", "I", true)
  | 1 => ("NoteImporter$Parser", "made", "LNoteImporter$Library;", true)
  | 2 => ("NoteImporter$Parser", "next", "I", false)
  | 3 => ("NoteImporter$Parser", "begin", "I", false)
  | 4 => ("NoteImporter$Parser", "isNumber", "Z", false)
  | 5 => ("NoteImporter$Parser", "isWord", "Z", false)
  | 6 => ("NoteImporter$Parser", "number", "I", false)
  | 7 => ("NoteImporter$Parser", "token", "Ljava/lang/String;", false)
  | _ => ("NoteImporter$Parser", "this$0", "LNoteImporter;", true)
def tyX4 : Nat → FieldType := fun k => match k with
  | 0 => .int
  | 1 => .object "NoteImporter$Library"
  | 2 => .int
  | 3 => .int
  | 4 => .boolean
  | 5 => .boolean
  | 6 => .int
  | 7 => .object "java/lang/String"
  | _ => .object "NoteImporter"
abbrev wsX40 : List Cond := u_ws RX4 TX4 9
theorem nmX4 : ∀ a, a < 9 → ∀ b, b < 9 → a ≠ b → (TX4 a).2.1 ≠ (TX4 b).2.1 := by decide +kernel
theorem tyX4_ok : ∀ k, k < 9 → parseFieldDescriptor (TX4 k).2.2.1 = some (tyX4 k) := by decide +kernel
abbrev cX4_init : ByteArray := prog_12_method_1_code
def yX4_init : MethodName := ⟨RX4, "<init>", "(LNoteImporter;ILNoteImporter$Library;)V"⟩
def dkwX4_init_1 : List UInt8 := [181, 0, 25, 42, 182, 0, 29, 177]
abbrev dktX4_init_1 : List UInt8 := dkwX4_init_1 ++ []
def dkwX4_init_0 : List UInt8 := [42, 43, 181, 0, 3, 42, 183, 0, 9, 42, 18, 15, 181, 0, 17, 42, 28, 181, 0, 21, 42, 45]
abbrev dktX4_init_0 : List UInt8 := dkwX4_init_0 ++ dktX4_init_1
theorem dksX4_init_0 : cX4_init.data.toList.drop 0 = dktX4_init_0 := by decide +kernel
theorem dksX4_init_1 : cX4_init.data.toList.drop 22 = dktX4_init_1 := dk_seg dksX4_init_0 22 rfl rfl
theorem dX4_init_0 : decode cX4_init 0 = .ok (.aload_n 0, 1) := dk_42 (dk_at dksX4_init_0 0 rfl rfl)
theorem dX4_init_1 : decode cX4_init 1 = .ok (.aload_n 1, 1) := dk_43 (dk_at dksX4_init_0 1 rfl rfl)
theorem dX4_init_2 : decode cX4_init 2 = .ok (.putfield 3, 3) := dk_181 0 3 (dk_at dksX4_init_0 2 rfl rfl)
theorem dX4_init_5 : decode cX4_init 5 = .ok (.aload_n 0, 1) := dk_42 (dk_at dksX4_init_0 5 rfl rfl)
theorem dX4_init_6 : decode cX4_init 6 = .ok (.invokespecial 9, 3) := dk_183 0 9 (dk_at dksX4_init_0 6 rfl rfl)
theorem dX4_init_9 : decode cX4_init 9 = .ok (.aload_n 0, 1) := dk_42 (dk_at dksX4_init_0 9 rfl rfl)
theorem dX4_init_10 : decode cX4_init 10 = .ok (.ldc 15, 2) := dk_18 15 (dk_at dksX4_init_0 10 rfl rfl)
theorem dX4_init_12 : decode cX4_init 12 = .ok (.putfield 17, 3) := dk_181 0 17 (dk_at dksX4_init_0 12 rfl rfl)
theorem dX4_init_15 : decode cX4_init 15 = .ok (.aload_n 0, 1) := dk_42 (dk_at dksX4_init_0 15 rfl rfl)
theorem dX4_init_16 : decode cX4_init 16 = .ok (.iload_n 2, 1) := dk_28 (dk_at dksX4_init_0 16 rfl rfl)
theorem dX4_init_17 : decode cX4_init 17 = .ok (.putfield 21, 3) := dk_181 0 21 (dk_at dksX4_init_0 17 rfl rfl)
theorem dX4_init_20 : decode cX4_init 20 = .ok (.aload_n 0, 1) := dk_42 (dk_at dksX4_init_0 20 rfl rfl)
theorem dX4_init_21 : decode cX4_init 21 = .ok (.aload_n 3, 1) := dk_45 (dk_at dksX4_init_0 21 rfl rfl)
theorem dX4_init_22 : decode cX4_init 22 = .ok (.putfield 25, 3) := dk_181 0 25 (dk_at dksX4_init_1 0 rfl rfl)
theorem dX4_init_25 : decode cX4_init 25 = .ok (.aload_n 0, 1) := dk_42 (dk_at dksX4_init_1 3 rfl rfl)
theorem dX4_init_26 : decode cX4_init 26 = .ok (.invokevirtual 29, 3) := dk_182 0 29 (dk_at dksX4_init_1 4 rfl rfl)
theorem dX4_init_29 : decode cX4_init 29 = .ok (.return_, 1) := dk_177 (dk_at dksX4_init_1 7 rfl rfl)
abbrev cX4_advance : ByteArray := prog_12_method_3_code
def yX4_advance : MethodName := ⟨RX4, "advance", "()V"⟩
def dkwX4_advance_11 : List UInt8 := [180, 0, 36, 4, 96, 181, 0, 36, 42, 43, 182, 0, 86, 181, 0, 17, 177]
abbrev dktX4_advance_11 : List UInt8 := dkwX4_advance_11 ++ []
def dkwX4_advance_10 : List UInt8 := [42, 180, 0, 21, 162, 0, 27, 43, 42, 42, 180, 0, 36, 182, 0, 39, 146, 182, 0, 82, 87, 42, 89]
abbrev dktX4_advance_10 : List UInt8 := dkwX4_advance_10 ++ dktX4_advance_11
def dkwX4_advance_9 : List UInt8 := [181, 0, 36, 167, 255, 204, 42, 180, 0, 61, 154, 0, 45, 42, 180, 0, 69, 154, 0, 38, 42, 180, 0, 36]
abbrev dktX4_advance_9 : List UInt8 := dkwX4_advance_9 ++ dktX4_advance_10
def dkwX4_advance_8 : List UInt8 := [153, 0, 30, 43, 42, 42, 180, 0, 36, 182, 0, 39, 146, 182, 0, 82, 87, 42, 89, 180, 0, 36, 4, 96]
abbrev dktX4_advance_8 : List UInt8 := dkwX4_advance_8 ++ dktX4_advance_9
def dkwX4_advance_7 : List UInt8 := [180, 0, 69, 153, 0, 51, 42, 42, 180, 0, 36, 182, 0, 39, 133, 20, 0, 65, 20, 0, 67, 184, 0, 57]
abbrev dktX4_advance_7 : List UInt8 := dkwX4_advance_7 ++ dktX4_advance_8
def dkwX4_advance_6 : List UInt8 := [96, 16, 48, 100, 184, 0, 76, 181, 0, 50, 42, 89, 180, 0, 36, 4, 96, 181, 0, 36, 167, 255, 190, 42]
abbrev dktX4_advance_6 : List UInt8 := dkwX4_advance_6 ++ dktX4_advance_7
def dkwX4_advance_5 : List UInt8 := [184, 0, 57, 153, 0, 44, 42, 18, 75, 16, 10, 42, 180, 0, 50, 104, 42, 42, 180, 0, 36, 182, 0, 39]
abbrev dktX4_advance_5 : List UInt8 := dkwX4_advance_5 ++ dktX4_advance_6
def dkwX4_advance_4 : List UInt8 := [42, 180, 0, 61, 153, 0, 65, 42, 42, 180, 0, 36, 182, 0, 39, 133, 20, 0, 53, 20, 0, 55]
abbrev dktX4_advance_4 : List UInt8 := dkwX4_advance_4 ++ dktX4_advance_5
def dkwX4_advance_3 : List UInt8 := [182, 0, 39, 133, 20, 0, 65, 20, 0, 67, 184, 0, 57, 181, 0, 69, 187, 0, 72, 89, 183, 0, 74, 76]
abbrev dktX4_advance_3 : List UInt8 := dkwX4_advance_3 ++ dktX4_advance_4
def dkwX4_advance_2 : List UInt8 := [182, 0, 39, 133, 20, 0, 53, 20, 0, 55, 184, 0, 57, 181, 0, 61, 42, 42, 42, 180, 0, 36]
abbrev dktX4_advance_2 : List UInt8 := dkwX4_advance_2 ++ dktX4_advance_3
def dkwX4_advance_1 : List UInt8 := [167, 255, 232, 42, 42, 180, 0, 36, 181, 0, 47, 42, 3, 181, 0, 50, 42, 42, 42, 180, 0, 36]
abbrev dktX4_advance_1 : List UInt8 := dkwX4_advance_1 ++ dktX4_advance_2
def dkwX4_advance_0 : List UInt8 := [42, 42, 180, 0, 36, 182, 0, 39, 184, 0, 43, 153, 0, 16, 42, 89, 180, 0, 36, 4, 96, 181, 0, 36]
abbrev dktX4_advance_0 : List UInt8 := dkwX4_advance_0 ++ dktX4_advance_1
theorem dksX4_advance_0 : cX4_advance.data.toList.drop 0 = dktX4_advance_0 := by decide +kernel
theorem dksX4_advance_1 : cX4_advance.data.toList.drop 24 = dktX4_advance_1 := dk_seg dksX4_advance_0 24 rfl rfl
theorem dksX4_advance_2 : cX4_advance.data.toList.drop 46 = dktX4_advance_2 := dk_seg dksX4_advance_1 22 rfl rfl
theorem dksX4_advance_3 : cX4_advance.data.toList.drop 68 = dktX4_advance_3 := dk_seg dksX4_advance_2 22 rfl rfl
theorem dksX4_advance_4 : cX4_advance.data.toList.drop 92 = dktX4_advance_4 := dk_seg dksX4_advance_3 24 rfl rfl
theorem dksX4_advance_5 : cX4_advance.data.toList.drop 114 = dktX4_advance_5 := dk_seg dksX4_advance_4 22 rfl rfl
theorem dksX4_advance_6 : cX4_advance.data.toList.drop 138 = dktX4_advance_6 := dk_seg dksX4_advance_5 24 rfl rfl
theorem dksX4_advance_7 : cX4_advance.data.toList.drop 162 = dktX4_advance_7 := dk_seg dksX4_advance_6 24 rfl rfl
theorem dksX4_advance_8 : cX4_advance.data.toList.drop 186 = dktX4_advance_8 := dk_seg dksX4_advance_7 24 rfl rfl
theorem dksX4_advance_9 : cX4_advance.data.toList.drop 210 = dktX4_advance_9 := dk_seg dksX4_advance_8 24 rfl rfl
theorem dksX4_advance_10 : cX4_advance.data.toList.drop 234 = dktX4_advance_10 := dk_seg dksX4_advance_9 24 rfl rfl
theorem dksX4_advance_11 : cX4_advance.data.toList.drop 257 = dktX4_advance_11 := dk_seg dksX4_advance_10 23 rfl rfl
theorem dX4_advance_0 : decode cX4_advance 0 = .ok (.aload_n 0, 1) := dk_42 (dk_at dksX4_advance_0 0 rfl rfl)
theorem dX4_advance_1 : decode cX4_advance 1 = .ok (.aload_n 0, 1) := dk_42 (dk_at dksX4_advance_0 1 rfl rfl)
theorem dX4_advance_2 : decode cX4_advance 2 = .ok (.getfield 36, 3) := dk_180 0 36 (dk_at dksX4_advance_0 2 rfl rfl)
theorem dX4_advance_5 : decode cX4_advance 5 = .ok (.invokevirtual 39, 3) := dk_182 0 39 (dk_at dksX4_advance_0 5 rfl rfl)
theorem dX4_advance_8 : decode cX4_advance 8 = .ok (.invokestatic 43, 3) := dk_184 0 43 (dk_at dksX4_advance_0 8 rfl rfl)
theorem dX4_advance_11 : decode cX4_advance 11 = .ok (.ifCond .eq 16, 3) := dk_153 0 16 (dk_at dksX4_advance_0 11 rfl rfl)
theorem dX4_advance_14 : decode cX4_advance 14 = .ok (.aload_n 0, 1) := dk_42 (dk_at dksX4_advance_0 14 rfl rfl)
theorem dX4_advance_15 : decode cX4_advance 15 = .ok (.dup, 1) := dk_89 (dk_at dksX4_advance_0 15 rfl rfl)
theorem dX4_advance_16 : decode cX4_advance 16 = .ok (.getfield 36, 3) := dk_180 0 36 (dk_at dksX4_advance_0 16 rfl rfl)
theorem dX4_advance_19 : decode cX4_advance 19 = .ok (.iconst 1, 1) := dk_4 (dk_at dksX4_advance_0 19 rfl rfl)
theorem dX4_advance_20 : decode cX4_advance 20 = .ok (.iadd, 1) := dk_96 (dk_at dksX4_advance_0 20 rfl rfl)
theorem dX4_advance_21 : decode cX4_advance 21 = .ok (.putfield 36, 3) := dk_181 0 36 (dk_at dksX4_advance_0 21 rfl rfl)
theorem dX4_advance_24 : decode cX4_advance 24 = .ok (.goto (-24), 3) := dk_167 255 232 (dk_at dksX4_advance_1 0 rfl rfl)
theorem dX4_advance_27 : decode cX4_advance 27 = .ok (.aload_n 0, 1) := dk_42 (dk_at dksX4_advance_1 3 rfl rfl)
theorem dX4_advance_28 : decode cX4_advance 28 = .ok (.aload_n 0, 1) := dk_42 (dk_at dksX4_advance_1 4 rfl rfl)
theorem dX4_advance_29 : decode cX4_advance 29 = .ok (.getfield 36, 3) := dk_180 0 36 (dk_at dksX4_advance_1 5 rfl rfl)
theorem dX4_advance_32 : decode cX4_advance 32 = .ok (.putfield 47, 3) := dk_181 0 47 (dk_at dksX4_advance_1 8 rfl rfl)
theorem dX4_advance_35 : decode cX4_advance 35 = .ok (.aload_n 0, 1) := dk_42 (dk_at dksX4_advance_1 11 rfl rfl)
theorem dX4_advance_36 : decode cX4_advance 36 = .ok (.iconst 0, 1) := dk_3 (dk_at dksX4_advance_1 12 rfl rfl)
theorem dX4_advance_37 : decode cX4_advance 37 = .ok (.putfield 50, 3) := dk_181 0 50 (dk_at dksX4_advance_1 13 rfl rfl)
theorem dX4_advance_40 : decode cX4_advance 40 = .ok (.aload_n 0, 1) := dk_42 (dk_at dksX4_advance_1 16 rfl rfl)
theorem dX4_advance_41 : decode cX4_advance 41 = .ok (.aload_n 0, 1) := dk_42 (dk_at dksX4_advance_1 17 rfl rfl)
theorem dX4_advance_42 : decode cX4_advance 42 = .ok (.aload_n 0, 1) := dk_42 (dk_at dksX4_advance_1 18 rfl rfl)
theorem dX4_advance_43 : decode cX4_advance 43 = .ok (.getfield 36, 3) := dk_180 0 36 (dk_at dksX4_advance_1 19 rfl rfl)
theorem dX4_advance_46 : decode cX4_advance 46 = .ok (.invokevirtual 39, 3) := dk_182 0 39 (dk_at dksX4_advance_2 0 rfl rfl)
theorem dX4_advance_49 : decode cX4_advance 49 = .ok (.i2l, 1) := dk_133 (dk_at dksX4_advance_2 3 rfl rfl)
theorem dX4_advance_50 : decode cX4_advance 50 = .ok (.ldc2_w 53, 3) := dk_20 0 53 (dk_at dksX4_advance_2 4 rfl rfl)
theorem dX4_advance_53 : decode cX4_advance 53 = .ok (.ldc2_w 55, 3) := dk_20 0 55 (dk_at dksX4_advance_2 7 rfl rfl)
theorem dX4_advance_56 : decode cX4_advance 56 = .ok (.invokestatic 57, 3) := dk_184 0 57 (dk_at dksX4_advance_2 10 rfl rfl)
theorem dX4_advance_59 : decode cX4_advance 59 = .ok (.putfield 61, 3) := dk_181 0 61 (dk_at dksX4_advance_2 13 rfl rfl)
theorem dX4_advance_62 : decode cX4_advance 62 = .ok (.aload_n 0, 1) := dk_42 (dk_at dksX4_advance_2 16 rfl rfl)
theorem dX4_advance_63 : decode cX4_advance 63 = .ok (.aload_n 0, 1) := dk_42 (dk_at dksX4_advance_2 17 rfl rfl)
theorem dX4_advance_64 : decode cX4_advance 64 = .ok (.aload_n 0, 1) := dk_42 (dk_at dksX4_advance_2 18 rfl rfl)
theorem dX4_advance_65 : decode cX4_advance 65 = .ok (.getfield 36, 3) := dk_180 0 36 (dk_at dksX4_advance_2 19 rfl rfl)
theorem dX4_advance_68 : decode cX4_advance 68 = .ok (.invokevirtual 39, 3) := dk_182 0 39 (dk_at dksX4_advance_3 0 rfl rfl)
theorem dX4_advance_71 : decode cX4_advance 71 = .ok (.i2l, 1) := dk_133 (dk_at dksX4_advance_3 3 rfl rfl)
theorem dX4_advance_72 : decode cX4_advance 72 = .ok (.ldc2_w 65, 3) := dk_20 0 65 (dk_at dksX4_advance_3 4 rfl rfl)
theorem dX4_advance_75 : decode cX4_advance 75 = .ok (.ldc2_w 67, 3) := dk_20 0 67 (dk_at dksX4_advance_3 7 rfl rfl)
theorem dX4_advance_78 : decode cX4_advance 78 = .ok (.invokestatic 57, 3) := dk_184 0 57 (dk_at dksX4_advance_3 10 rfl rfl)
theorem dX4_advance_81 : decode cX4_advance 81 = .ok (.putfield 69, 3) := dk_181 0 69 (dk_at dksX4_advance_3 13 rfl rfl)
theorem dX4_advance_84 : decode cX4_advance 84 = .ok (.new 72, 3) := dk_187 0 72 (dk_at dksX4_advance_3 16 rfl rfl)
theorem dX4_advance_87 : decode cX4_advance 87 = .ok (.dup, 1) := dk_89 (dk_at dksX4_advance_3 19 rfl rfl)
theorem dX4_advance_88 : decode cX4_advance 88 = .ok (.invokespecial 74, 3) := dk_183 0 74 (dk_at dksX4_advance_3 20 rfl rfl)
theorem dX4_advance_91 : decode cX4_advance 91 = .ok (.astore_n 1, 1) := dk_76 (dk_at dksX4_advance_3 23 rfl rfl)
theorem dX4_advance_92 : decode cX4_advance 92 = .ok (.aload_n 0, 1) := dk_42 (dk_at dksX4_advance_4 0 rfl rfl)
theorem dX4_advance_93 : decode cX4_advance 93 = .ok (.getfield 61, 3) := dk_180 0 61 (dk_at dksX4_advance_4 1 rfl rfl)
theorem dX4_advance_96 : decode cX4_advance 96 = .ok (.ifCond .eq 65, 3) := dk_153 0 65 (dk_at dksX4_advance_4 4 rfl rfl)
theorem dX4_advance_99 : decode cX4_advance 99 = .ok (.aload_n 0, 1) := dk_42 (dk_at dksX4_advance_4 7 rfl rfl)
theorem dX4_advance_100 : decode cX4_advance 100 = .ok (.aload_n 0, 1) := dk_42 (dk_at dksX4_advance_4 8 rfl rfl)
theorem dX4_advance_101 : decode cX4_advance 101 = .ok (.getfield 36, 3) := dk_180 0 36 (dk_at dksX4_advance_4 9 rfl rfl)
theorem dX4_advance_104 : decode cX4_advance 104 = .ok (.invokevirtual 39, 3) := dk_182 0 39 (dk_at dksX4_advance_4 12 rfl rfl)
theorem dX4_advance_107 : decode cX4_advance 107 = .ok (.i2l, 1) := dk_133 (dk_at dksX4_advance_4 15 rfl rfl)
theorem dX4_advance_108 : decode cX4_advance 108 = .ok (.ldc2_w 53, 3) := dk_20 0 53 (dk_at dksX4_advance_4 16 rfl rfl)
theorem dX4_advance_111 : decode cX4_advance 111 = .ok (.ldc2_w 55, 3) := dk_20 0 55 (dk_at dksX4_advance_4 19 rfl rfl)
theorem dX4_advance_114 : decode cX4_advance 114 = .ok (.invokestatic 57, 3) := dk_184 0 57 (dk_at dksX4_advance_5 0 rfl rfl)
theorem dX4_advance_117 : decode cX4_advance 117 = .ok (.ifCond .eq 44, 3) := dk_153 0 44 (dk_at dksX4_advance_5 3 rfl rfl)
theorem dX4_advance_120 : decode cX4_advance 120 = .ok (.aload_n 0, 1) := dk_42 (dk_at dksX4_advance_5 6 rfl rfl)
theorem dX4_advance_121 : decode cX4_advance 121 = .ok (.ldc 75, 2) := dk_18 75 (dk_at dksX4_advance_5 7 rfl rfl)
theorem dX4_advance_123 : decode cX4_advance 123 = .ok (.bipush 10, 2) := dk_16 10 (dk_at dksX4_advance_5 9 rfl rfl)
theorem dX4_advance_125 : decode cX4_advance 125 = .ok (.aload_n 0, 1) := dk_42 (dk_at dksX4_advance_5 11 rfl rfl)
theorem dX4_advance_126 : decode cX4_advance 126 = .ok (.getfield 50, 3) := dk_180 0 50 (dk_at dksX4_advance_5 12 rfl rfl)
theorem dX4_advance_129 : decode cX4_advance 129 = .ok (.imul, 1) := dk_104 (dk_at dksX4_advance_5 15 rfl rfl)
theorem dX4_advance_130 : decode cX4_advance 130 = .ok (.aload_n 0, 1) := dk_42 (dk_at dksX4_advance_5 16 rfl rfl)
theorem dX4_advance_131 : decode cX4_advance 131 = .ok (.aload_n 0, 1) := dk_42 (dk_at dksX4_advance_5 17 rfl rfl)
theorem dX4_advance_132 : decode cX4_advance 132 = .ok (.getfield 36, 3) := dk_180 0 36 (dk_at dksX4_advance_5 18 rfl rfl)
theorem dX4_advance_135 : decode cX4_advance 135 = .ok (.invokevirtual 39, 3) := dk_182 0 39 (dk_at dksX4_advance_5 21 rfl rfl)
theorem dX4_advance_138 : decode cX4_advance 138 = .ok (.iadd, 1) := dk_96 (dk_at dksX4_advance_6 0 rfl rfl)
theorem dX4_advance_139 : decode cX4_advance 139 = .ok (.bipush 48, 2) := dk_16 48 (dk_at dksX4_advance_6 1 rfl rfl)
theorem dX4_advance_141 : decode cX4_advance 141 = .ok (.isub, 1) := dk_100 (dk_at dksX4_advance_6 3 rfl rfl)
theorem dX4_advance_142 : decode cX4_advance 142 = .ok (.invokestatic 76, 3) := dk_184 0 76 (dk_at dksX4_advance_6 4 rfl rfl)
theorem dX4_advance_145 : decode cX4_advance 145 = .ok (.putfield 50, 3) := dk_181 0 50 (dk_at dksX4_advance_6 7 rfl rfl)
theorem dX4_advance_148 : decode cX4_advance 148 = .ok (.aload_n 0, 1) := dk_42 (dk_at dksX4_advance_6 10 rfl rfl)
theorem dX4_advance_149 : decode cX4_advance 149 = .ok (.dup, 1) := dk_89 (dk_at dksX4_advance_6 11 rfl rfl)
theorem dX4_advance_150 : decode cX4_advance 150 = .ok (.getfield 36, 3) := dk_180 0 36 (dk_at dksX4_advance_6 12 rfl rfl)
theorem dX4_advance_153 : decode cX4_advance 153 = .ok (.iconst 1, 1) := dk_4 (dk_at dksX4_advance_6 15 rfl rfl)
theorem dX4_advance_154 : decode cX4_advance 154 = .ok (.iadd, 1) := dk_96 (dk_at dksX4_advance_6 16 rfl rfl)
theorem dX4_advance_155 : decode cX4_advance 155 = .ok (.putfield 36, 3) := dk_181 0 36 (dk_at dksX4_advance_6 17 rfl rfl)
theorem dX4_advance_158 : decode cX4_advance 158 = .ok (.goto (-66), 3) := dk_167 255 190 (dk_at dksX4_advance_6 20 rfl rfl)
theorem dX4_advance_161 : decode cX4_advance 161 = .ok (.aload_n 0, 1) := dk_42 (dk_at dksX4_advance_6 23 rfl rfl)
theorem dX4_advance_162 : decode cX4_advance 162 = .ok (.getfield 69, 3) := dk_180 0 69 (dk_at dksX4_advance_7 0 rfl rfl)
theorem dX4_advance_165 : decode cX4_advance 165 = .ok (.ifCond .eq 51, 3) := dk_153 0 51 (dk_at dksX4_advance_7 3 rfl rfl)
theorem dX4_advance_168 : decode cX4_advance 168 = .ok (.aload_n 0, 1) := dk_42 (dk_at dksX4_advance_7 6 rfl rfl)
theorem dX4_advance_169 : decode cX4_advance 169 = .ok (.aload_n 0, 1) := dk_42 (dk_at dksX4_advance_7 7 rfl rfl)
theorem dX4_advance_170 : decode cX4_advance 170 = .ok (.getfield 36, 3) := dk_180 0 36 (dk_at dksX4_advance_7 8 rfl rfl)
theorem dX4_advance_173 : decode cX4_advance 173 = .ok (.invokevirtual 39, 3) := dk_182 0 39 (dk_at dksX4_advance_7 11 rfl rfl)
theorem dX4_advance_176 : decode cX4_advance 176 = .ok (.i2l, 1) := dk_133 (dk_at dksX4_advance_7 14 rfl rfl)
theorem dX4_advance_177 : decode cX4_advance 177 = .ok (.ldc2_w 65, 3) := dk_20 0 65 (dk_at dksX4_advance_7 15 rfl rfl)
theorem dX4_advance_180 : decode cX4_advance 180 = .ok (.ldc2_w 67, 3) := dk_20 0 67 (dk_at dksX4_advance_7 18 rfl rfl)
theorem dX4_advance_183 : decode cX4_advance 183 = .ok (.invokestatic 57, 3) := dk_184 0 57 (dk_at dksX4_advance_7 21 rfl rfl)
theorem dX4_advance_186 : decode cX4_advance 186 = .ok (.ifCond .eq 30, 3) := dk_153 0 30 (dk_at dksX4_advance_8 0 rfl rfl)
theorem dX4_advance_189 : decode cX4_advance 189 = .ok (.aload_n 1, 1) := dk_43 (dk_at dksX4_advance_8 3 rfl rfl)
theorem dX4_advance_190 : decode cX4_advance 190 = .ok (.aload_n 0, 1) := dk_42 (dk_at dksX4_advance_8 4 rfl rfl)
theorem dX4_advance_191 : decode cX4_advance 191 = .ok (.aload_n 0, 1) := dk_42 (dk_at dksX4_advance_8 5 rfl rfl)
theorem dX4_advance_192 : decode cX4_advance 192 = .ok (.getfield 36, 3) := dk_180 0 36 (dk_at dksX4_advance_8 6 rfl rfl)
theorem dX4_advance_195 : decode cX4_advance 195 = .ok (.invokevirtual 39, 3) := dk_182 0 39 (dk_at dksX4_advance_8 9 rfl rfl)
theorem dX4_advance_198 : decode cX4_advance 198 = .ok (.i2c, 1) := dk_146 (dk_at dksX4_advance_8 12 rfl rfl)
theorem dX4_advance_199 : decode cX4_advance 199 = .ok (.invokevirtual 82, 3) := dk_182 0 82 (dk_at dksX4_advance_8 13 rfl rfl)
theorem dX4_advance_202 : decode cX4_advance 202 = .ok (.pop, 1) := dk_87 (dk_at dksX4_advance_8 16 rfl rfl)
theorem dX4_advance_203 : decode cX4_advance 203 = .ok (.aload_n 0, 1) := dk_42 (dk_at dksX4_advance_8 17 rfl rfl)
theorem dX4_advance_204 : decode cX4_advance 204 = .ok (.dup, 1) := dk_89 (dk_at dksX4_advance_8 18 rfl rfl)
theorem dX4_advance_205 : decode cX4_advance 205 = .ok (.getfield 36, 3) := dk_180 0 36 (dk_at dksX4_advance_8 19 rfl rfl)
theorem dX4_advance_208 : decode cX4_advance 208 = .ok (.iconst 1, 1) := dk_4 (dk_at dksX4_advance_8 22 rfl rfl)
theorem dX4_advance_209 : decode cX4_advance 209 = .ok (.iadd, 1) := dk_96 (dk_at dksX4_advance_8 23 rfl rfl)
theorem dX4_advance_210 : decode cX4_advance 210 = .ok (.putfield 36, 3) := dk_181 0 36 (dk_at dksX4_advance_9 0 rfl rfl)
theorem dX4_advance_213 : decode cX4_advance 213 = .ok (.goto (-52), 3) := dk_167 255 204 (dk_at dksX4_advance_9 3 rfl rfl)
theorem dX4_advance_216 : decode cX4_advance 216 = .ok (.aload_n 0, 1) := dk_42 (dk_at dksX4_advance_9 6 rfl rfl)
theorem dX4_advance_217 : decode cX4_advance 217 = .ok (.getfield 61, 3) := dk_180 0 61 (dk_at dksX4_advance_9 7 rfl rfl)
theorem dX4_advance_220 : decode cX4_advance 220 = .ok (.ifCond .ne 45, 3) := dk_154 0 45 (dk_at dksX4_advance_9 10 rfl rfl)
theorem dX4_advance_223 : decode cX4_advance 223 = .ok (.aload_n 0, 1) := dk_42 (dk_at dksX4_advance_9 13 rfl rfl)
theorem dX4_advance_224 : decode cX4_advance 224 = .ok (.getfield 69, 3) := dk_180 0 69 (dk_at dksX4_advance_9 14 rfl rfl)
theorem dX4_advance_227 : decode cX4_advance 227 = .ok (.ifCond .ne 38, 3) := dk_154 0 38 (dk_at dksX4_advance_9 17 rfl rfl)
theorem dX4_advance_230 : decode cX4_advance 230 = .ok (.aload_n 0, 1) := dk_42 (dk_at dksX4_advance_9 20 rfl rfl)
theorem dX4_advance_231 : decode cX4_advance 231 = .ok (.getfield 36, 3) := dk_180 0 36 (dk_at dksX4_advance_9 21 rfl rfl)
theorem dX4_advance_234 : decode cX4_advance 234 = .ok (.aload_n 0, 1) := dk_42 (dk_at dksX4_advance_10 0 rfl rfl)
theorem dX4_advance_235 : decode cX4_advance 235 = .ok (.getfield 21, 3) := dk_180 0 21 (dk_at dksX4_advance_10 1 rfl rfl)
theorem dX4_advance_238 : decode cX4_advance 238 = .ok (.if_icmp .ge 27, 3) := dk_162 0 27 (dk_at dksX4_advance_10 4 rfl rfl)
theorem dX4_advance_241 : decode cX4_advance 241 = .ok (.aload_n 1, 1) := dk_43 (dk_at dksX4_advance_10 7 rfl rfl)
theorem dX4_advance_242 : decode cX4_advance 242 = .ok (.aload_n 0, 1) := dk_42 (dk_at dksX4_advance_10 8 rfl rfl)
theorem dX4_advance_243 : decode cX4_advance 243 = .ok (.aload_n 0, 1) := dk_42 (dk_at dksX4_advance_10 9 rfl rfl)
theorem dX4_advance_244 : decode cX4_advance 244 = .ok (.getfield 36, 3) := dk_180 0 36 (dk_at dksX4_advance_10 10 rfl rfl)
theorem dX4_advance_247 : decode cX4_advance 247 = .ok (.invokevirtual 39, 3) := dk_182 0 39 (dk_at dksX4_advance_10 13 rfl rfl)
theorem dX4_advance_250 : decode cX4_advance 250 = .ok (.i2c, 1) := dk_146 (dk_at dksX4_advance_10 16 rfl rfl)
theorem dX4_advance_251 : decode cX4_advance 251 = .ok (.invokevirtual 82, 3) := dk_182 0 82 (dk_at dksX4_advance_10 17 rfl rfl)
theorem dX4_advance_254 : decode cX4_advance 254 = .ok (.pop, 1) := dk_87 (dk_at dksX4_advance_10 20 rfl rfl)
theorem dX4_advance_255 : decode cX4_advance 255 = .ok (.aload_n 0, 1) := dk_42 (dk_at dksX4_advance_10 21 rfl rfl)
theorem dX4_advance_256 : decode cX4_advance 256 = .ok (.dup, 1) := dk_89 (dk_at dksX4_advance_10 22 rfl rfl)
theorem dX4_advance_257 : decode cX4_advance 257 = .ok (.getfield 36, 3) := dk_180 0 36 (dk_at dksX4_advance_11 0 rfl rfl)
theorem dX4_advance_260 : decode cX4_advance 260 = .ok (.iconst 1, 1) := dk_4 (dk_at dksX4_advance_11 3 rfl rfl)
theorem dX4_advance_261 : decode cX4_advance 261 = .ok (.iadd, 1) := dk_96 (dk_at dksX4_advance_11 4 rfl rfl)
theorem dX4_advance_262 : decode cX4_advance 262 = .ok (.putfield 36, 3) := dk_181 0 36 (dk_at dksX4_advance_11 5 rfl rfl)
theorem dX4_advance_265 : decode cX4_advance 265 = .ok (.aload_n 0, 1) := dk_42 (dk_at dksX4_advance_11 8 rfl rfl)
theorem dX4_advance_266 : decode cX4_advance 266 = .ok (.aload_n 1, 1) := dk_43 (dk_at dksX4_advance_11 9 rfl rfl)
theorem dX4_advance_267 : decode cX4_advance 267 = .ok (.invokevirtual 86, 3) := dk_182 0 86 (dk_at dksX4_advance_11 10 rfl rfl)
theorem dX4_advance_270 : decode cX4_advance 270 = .ok (.putfield 17, 3) := dk_181 0 17 (dk_at dksX4_advance_11 13 rfl rfl)
theorem dX4_advance_273 : decode cX4_advance 273 = .ok (.return_, 1) := dk_177 (dk_at dksX4_advance_11 16 rfl rfl)
abbrev cX4_byteAt : ByteArray := prog_12_method_2_code
def yX4_byteAt : MethodName := ⟨RX4, "byteAt", "(I)I"⟩
def dkwX4_byteAt_1 : List UInt8 := [2, 172]
abbrev dktX4_byteAt_1 : List UInt8 := dkwX4_byteAt_1 ++ []
def dkwX4_byteAt_0 : List UInt8 := [27, 42, 180, 0, 21, 162, 0, 19, 42, 180, 0, 3, 180, 0, 32, 27, 51, 17, 0, 255, 126, 167, 0, 4]
abbrev dktX4_byteAt_0 : List UInt8 := dkwX4_byteAt_0 ++ dktX4_byteAt_1
theorem dksX4_byteAt_0 : cX4_byteAt.data.toList.drop 0 = dktX4_byteAt_0 := by decide +kernel
theorem dksX4_byteAt_1 : cX4_byteAt.data.toList.drop 24 = dktX4_byteAt_1 := dk_seg dksX4_byteAt_0 24 rfl rfl
theorem dX4_byteAt_0 : decode cX4_byteAt 0 = .ok (.iload_n 1, 1) := dk_27 (dk_at dksX4_byteAt_0 0 rfl rfl)
theorem dX4_byteAt_1 : decode cX4_byteAt 1 = .ok (.aload_n 0, 1) := dk_42 (dk_at dksX4_byteAt_0 1 rfl rfl)
theorem dX4_byteAt_2 : decode cX4_byteAt 2 = .ok (.getfield 21, 3) := dk_180 0 21 (dk_at dksX4_byteAt_0 2 rfl rfl)
theorem dX4_byteAt_5 : decode cX4_byteAt 5 = .ok (.if_icmp .ge 19, 3) := dk_162 0 19 (dk_at dksX4_byteAt_0 5 rfl rfl)
theorem dX4_byteAt_8 : decode cX4_byteAt 8 = .ok (.aload_n 0, 1) := dk_42 (dk_at dksX4_byteAt_0 8 rfl rfl)
theorem dX4_byteAt_9 : decode cX4_byteAt 9 = .ok (.getfield 3, 3) := dk_180 0 3 (dk_at dksX4_byteAt_0 9 rfl rfl)
theorem dX4_byteAt_12 : decode cX4_byteAt 12 = .ok (.getfield 32, 3) := dk_180 0 32 (dk_at dksX4_byteAt_0 12 rfl rfl)
theorem dX4_byteAt_15 : decode cX4_byteAt 15 = .ok (.iload_n 1, 1) := dk_27 (dk_at dksX4_byteAt_0 15 rfl rfl)
theorem dX4_byteAt_16 : decode cX4_byteAt 16 = .ok (.baload, 1) := dk_51 (dk_at dksX4_byteAt_0 16 rfl rfl)
theorem dX4_byteAt_17 : decode cX4_byteAt 17 = .ok (.sipush 255, 3) := dk_17 0 255 (dk_at dksX4_byteAt_0 17 rfl rfl)
theorem dX4_byteAt_20 : decode cX4_byteAt 20 = .ok (.iand, 1) := dk_126 (dk_at dksX4_byteAt_0 20 rfl rfl)
theorem dX4_byteAt_21 : decode cX4_byteAt 21 = .ok (.goto 4, 3) := dk_167 0 4 (dk_at dksX4_byteAt_0 21 rfl rfl)
theorem dX4_byteAt_24 : decode cX4_byteAt 24 = .ok (.iconst (-1), 1) := dk_2 (dk_at dksX4_byteAt_1 0 rfl rfl)
theorem dX4_byteAt_25 : decode cX4_byteAt 25 = .ok (.ireturn, 1) := dk_172 (dk_at dksX4_byteAt_1 1 rfl rfl)
abbrev cX4_records : ByteArray := prog_12_method_9_code
def yX4_records : MethodName := ⟨RX4, "records", "()I"⟩
def dkwX4_records_1 : List UInt8 := [132, 1, 1, 167, 255, 232, 27, 172]
abbrev dktX4_records_1 : List UInt8 := dkwX4_records_1 ++ []
def dkwX4_records_0 : List UInt8 := [3, 60, 42, 180, 0, 47, 42, 180, 0, 21, 162, 0, 19, 42, 182, 0, 114, 42, 18, 117, 182, 0, 119]
abbrev dktX4_records_0 : List UInt8 := dkwX4_records_0 ++ dktX4_records_1
theorem dksX4_records_0 : cX4_records.data.toList.drop 0 = dktX4_records_0 := by decide +kernel
theorem dksX4_records_1 : cX4_records.data.toList.drop 23 = dktX4_records_1 := dk_seg dksX4_records_0 23 rfl rfl
theorem dX4_records_0 : decode cX4_records 0 = .ok (.iconst 0, 1) := dk_3 (dk_at dksX4_records_0 0 rfl rfl)
theorem dX4_records_1 : decode cX4_records 1 = .ok (.istore_n 1, 1) := dk_60 (dk_at dksX4_records_0 1 rfl rfl)
theorem dX4_records_2 : decode cX4_records 2 = .ok (.aload_n 0, 1) := dk_42 (dk_at dksX4_records_0 2 rfl rfl)
theorem dX4_records_3 : decode cX4_records 3 = .ok (.getfield 47, 3) := dk_180 0 47 (dk_at dksX4_records_0 3 rfl rfl)
theorem dX4_records_6 : decode cX4_records 6 = .ok (.aload_n 0, 1) := dk_42 (dk_at dksX4_records_0 6 rfl rfl)
theorem dX4_records_7 : decode cX4_records 7 = .ok (.getfield 21, 3) := dk_180 0 21 (dk_at dksX4_records_0 7 rfl rfl)
theorem dX4_records_10 : decode cX4_records 10 = .ok (.if_icmp .ge 19, 3) := dk_162 0 19 (dk_at dksX4_records_0 10 rfl rfl)
theorem dX4_records_13 : decode cX4_records 13 = .ok (.aload_n 0, 1) := dk_42 (dk_at dksX4_records_0 13 rfl rfl)
theorem dX4_records_14 : decode cX4_records 14 = .ok (.invokevirtual 114, 3) := dk_182 0 114 (dk_at dksX4_records_0 14 rfl rfl)
theorem dX4_records_17 : decode cX4_records 17 = .ok (.aload_n 0, 1) := dk_42 (dk_at dksX4_records_0 17 rfl rfl)
theorem dX4_records_18 : decode cX4_records 18 = .ok (.ldc 117, 2) := dk_18 117 (dk_at dksX4_records_0 18 rfl rfl)
theorem dX4_records_20 : decode cX4_records 20 = .ok (.invokevirtual 119, 3) := dk_182 0 119 (dk_at dksX4_records_0 20 rfl rfl)
theorem dX4_records_23 : decode cX4_records 23 = .ok (.iinc 1 1, 3) := dk_132 1 1 (dk_at dksX4_records_1 0 rfl rfl)
theorem dX4_records_26 : decode cX4_records 26 = .ok (.goto (-24), 3) := dk_167 255 232 (dk_at dksX4_records_1 3 rfl rfl)
theorem dX4_records_29 : decode cX4_records 29 = .ok (.iload_n 1, 1) := dk_27 (dk_at dksX4_records_1 6 rfl rfl)
theorem dX4_records_30 : decode cX4_records 30 = .ok (.ireturn, 1) := dk_172 (dk_at dksX4_records_1 7 rfl rfl)
abbrev cX4_record : ByteArray := prog_12_method_10_code
def yX4_record : MethodName := ⟨RX4, "record", "()V"⟩
def dkwX4_record_15 : List UInt8 := [183, 0, 92, 191, 177]
abbrev dktX4_record_15 : List UInt8 := dkwX4_record_15 ++ []
def dkwX4_record_14 : List UInt8 := [182, 0, 140, 4, 100, 182, 0, 174, 181, 0, 176, 167, 0, 17, 187, 0, 90, 89, 4, 42, 180, 0, 47, 1]
abbrev dktX4_record_14 : List UInt8 := dkwX4_record_14 ++ dktX4_record_15
def dkwX4_record_13 : List UInt8 := [182, 0, 172, 167, 0, 48, 42, 182, 0, 29, 42, 180, 0, 25, 42, 3, 42, 180, 0, 25, 180, 0, 134]
abbrev dktX4_record_13 : List UInt8 := dkwX4_record_13 ++ dktX4_record_14
def dkwX4_record_12 : List UInt8 := [180, 0, 134, 182, 0, 168, 154, 0, 7, 4, 167, 0, 4, 3, 8, 182, 0, 95, 42, 182, 0, 29, 42]
abbrev dktX4_record_12 : List UInt8 := dkwX4_record_12 ++ dktX4_record_13
def dkwX4_record_11 : List UInt8 := [182, 0, 140, 16, 40, 162, 0, 7, 4, 167, 0, 4, 3, 7, 182, 0, 95, 42, 42, 180, 0, 25]
abbrev dktX4_record_11 : List UInt8 := dkwX4_record_11 ++ dktX4_record_12
def dkwX4_record_10 : List UInt8 := [182, 0, 29, 42, 180, 0, 25, 45, 182, 0, 162, 167, 0, 107, 42, 42, 180, 0, 25, 180, 0, 165]
abbrev dktX4_record_10 : List UInt8 := dkwX4_record_10 ++ dktX4_record_11
def dkwX4_record_9 : List UInt8 := [180, 0, 25, 180, 0, 153, 45, 182, 0, 157, 154, 0, 7, 4, 167, 0, 4, 3, 6, 182, 0, 95, 42]
abbrev dktX4_record_9 : List UInt8 := dkwX4_record_9 ++ dktX4_record_10
def dkwX4_record_8 : List UInt8 := [162, 0, 7, 4, 167, 0, 4, 3, 7, 182, 0, 95, 42, 182, 0, 29, 42, 182, 0, 150, 78, 42, 42]
abbrev dktX4_record_8 : List UInt8 := dkwX4_record_8 ++ dktX4_record_9
def dkwX4_record_7 : List UInt8 := [42, 182, 0, 29, 42, 182, 0, 145, 167, 0, 180, 42, 42, 180, 0, 25, 180, 0, 147, 182, 0, 140, 16, 6]
abbrev dktX4_record_7 : List UInt8 := dkwX4_record_7 ++ dktX4_record_8
def dkwX4_record_6 : List UInt8 := [42, 42, 180, 0, 25, 180, 0, 134, 182, 0, 140, 6, 162, 0, 7, 4, 167, 0, 4, 3, 7, 182, 0, 95]
abbrev dktX4_record_6 : List UInt8 := dkwX4_record_6 ++ dktX4_record_7
def dkwX4_record_5 : List UInt8 := [170, 0, 0, 0, 0, 228, 0, 0, 0, 0, 0, 0, 0, 3, 0, 0, 0, 30, 0, 0, 0, 65, 0, 0, 0, 138, 0, 0, 0, 197]
abbrev dktX4_record_5 : List UInt8 := dkwX4_record_5 ++ dktX4_record_6
def dkwX4_record_4 : List UInt8 := [153, 0, 5, 6, 61, 28]
abbrev dktX4_record_4 : List UInt8 := dkwX4_record_4 ++ dktX4_record_5
def dkwX4_record_3 : List UInt8 := [61, 167, 0, 28, 43, 18, 130, 182, 0, 99, 153, 0, 19, 5, 61, 167, 0, 14, 43, 18, 132, 182, 0, 99]
abbrev dktX4_record_3 : List UInt8 := dkwX4_record_3 ++ dktX4_record_4
def dkwX4_record_2 : List UInt8 := [43, 18, 126, 182, 0, 99, 153, 0, 47, 3, 61, 167, 0, 42, 43, 18, 128, 182, 0, 99, 153, 0, 33, 4]
abbrev dktX4_record_2 : List UInt8 := dkwX4_record_2 ++ dktX4_record_3
def dkwX4_record_1 : List UInt8 := [171, 0, 0, 0, 94, 0, 0, 0, 4, 143, 119, 245, 190, 0, 0, 0, 41, 200, 69, 88, 195, 0, 0, 0, 55, 203, 126, 113, 145, 0, 0, 0, 83, 0, 51, 175, 242, 0, 0, 0, 69]
abbrev dktX4_record_1 : List UInt8 := dkwX4_record_1 ++ dktX4_record_2
def dkwX4_record_0 : List UInt8 := [42, 180, 0, 17, 76, 2, 61, 43, 182, 0, 123]
abbrev dktX4_record_0 : List UInt8 := dkwX4_record_0 ++ dktX4_record_1
theorem dksX4_record_0 : cX4_record.data.toList.drop 0 = dktX4_record_0 := by decide +kernel
theorem dksX4_record_1 : cX4_record.data.toList.drop 11 = dktX4_record_1 := dk_seg dksX4_record_0 11 rfl rfl
theorem dksX4_record_2 : cX4_record.data.toList.drop 52 = dktX4_record_2 := dk_seg dksX4_record_1 41 rfl rfl
theorem dksX4_record_3 : cX4_record.data.toList.drop 76 = dktX4_record_3 := dk_seg dksX4_record_2 24 rfl rfl
theorem dksX4_record_4 : cX4_record.data.toList.drop 100 = dktX4_record_4 := dk_seg dksX4_record_3 24 rfl rfl
theorem dksX4_record_5 : cX4_record.data.toList.drop 106 = dktX4_record_5 := dk_seg dksX4_record_4 6 rfl rfl
theorem dksX4_record_6 : cX4_record.data.toList.drop 136 = dktX4_record_6 := dk_seg dksX4_record_5 30 rfl rfl
theorem dksX4_record_7 : cX4_record.data.toList.drop 160 = dktX4_record_7 := dk_seg dksX4_record_6 24 rfl rfl
theorem dksX4_record_8 : cX4_record.data.toList.drop 184 = dktX4_record_8 := dk_seg dksX4_record_7 24 rfl rfl
theorem dksX4_record_9 : cX4_record.data.toList.drop 207 = dktX4_record_9 := dk_seg dksX4_record_8 23 rfl rfl
theorem dksX4_record_10 : cX4_record.data.toList.drop 230 = dktX4_record_10 := dk_seg dksX4_record_9 23 rfl rfl
theorem dksX4_record_11 : cX4_record.data.toList.drop 252 = dktX4_record_11 := dk_seg dksX4_record_10 22 rfl rfl
theorem dksX4_record_12 : cX4_record.data.toList.drop 274 = dktX4_record_12 := dk_seg dksX4_record_11 22 rfl rfl
theorem dksX4_record_13 : cX4_record.data.toList.drop 297 = dktX4_record_13 := dk_seg dksX4_record_12 23 rfl rfl
theorem dksX4_record_14 : cX4_record.data.toList.drop 320 = dktX4_record_14 := dk_seg dksX4_record_13 23 rfl rfl
theorem dksX4_record_15 : cX4_record.data.toList.drop 344 = dktX4_record_15 := dk_seg dksX4_record_14 24 rfl rfl
theorem dX4_record_0 : decode cX4_record 0 = .ok (.aload_n 0, 1) := dk_42 (dk_at dksX4_record_0 0 rfl rfl)
theorem dX4_record_1 : decode cX4_record 1 = .ok (.getfield 17, 3) := dk_180 0 17 (dk_at dksX4_record_0 1 rfl rfl)
theorem dX4_record_4 : decode cX4_record 4 = .ok (.astore_n 1, 1) := dk_76 (dk_at dksX4_record_0 4 rfl rfl)
theorem dX4_record_5 : decode cX4_record 5 = .ok (.iconst (-1), 1) := dk_2 (dk_at dksX4_record_0 5 rfl rfl)
theorem dX4_record_6 : decode cX4_record 6 = .ok (.istore_n 2, 1) := dk_61 (dk_at dksX4_record_0 6 rfl rfl)
theorem dX4_record_7 : decode cX4_record 7 = .ok (.aload_n 1, 1) := dk_43 (dk_at dksX4_record_0 7 rfl rfl)
theorem dX4_record_8 : decode cX4_record 8 = .ok (.invokevirtual 123, 3) := dk_182 0 123 (dk_at dksX4_record_0 8 rfl rfl)
theorem dX4_record_11 : decode cX4_record 11 = .ok (.lookupswitch 94 #[(-1887963714, 41), (-934979389, 55), (-880905839, 83), (3387378, 69)], 41) := by decide +kernel
theorem dX4_record_52 : decode cX4_record 52 = .ok (.aload_n 1, 1) := dk_43 (dk_at dksX4_record_2 0 rfl rfl)
theorem dX4_record_53 : decode cX4_record 53 = .ok (.ldc 126, 2) := dk_18 126 (dk_at dksX4_record_2 1 rfl rfl)
theorem dX4_record_55 : decode cX4_record 55 = .ok (.invokevirtual 99, 3) := dk_182 0 99 (dk_at dksX4_record_2 3 rfl rfl)
theorem dX4_record_58 : decode cX4_record 58 = .ok (.ifCond .eq 47, 3) := dk_153 0 47 (dk_at dksX4_record_2 6 rfl rfl)
theorem dX4_record_61 : decode cX4_record 61 = .ok (.iconst 0, 1) := dk_3 (dk_at dksX4_record_2 9 rfl rfl)
theorem dX4_record_62 : decode cX4_record 62 = .ok (.istore_n 2, 1) := dk_61 (dk_at dksX4_record_2 10 rfl rfl)
theorem dX4_record_63 : decode cX4_record 63 = .ok (.goto 42, 3) := dk_167 0 42 (dk_at dksX4_record_2 11 rfl rfl)
theorem dX4_record_66 : decode cX4_record 66 = .ok (.aload_n 1, 1) := dk_43 (dk_at dksX4_record_2 14 rfl rfl)
theorem dX4_record_67 : decode cX4_record 67 = .ok (.ldc 128, 2) := dk_18 128 (dk_at dksX4_record_2 15 rfl rfl)
theorem dX4_record_69 : decode cX4_record 69 = .ok (.invokevirtual 99, 3) := dk_182 0 99 (dk_at dksX4_record_2 17 rfl rfl)
theorem dX4_record_72 : decode cX4_record 72 = .ok (.ifCond .eq 33, 3) := dk_153 0 33 (dk_at dksX4_record_2 20 rfl rfl)
theorem dX4_record_75 : decode cX4_record 75 = .ok (.iconst 1, 1) := dk_4 (dk_at dksX4_record_2 23 rfl rfl)
theorem dX4_record_76 : decode cX4_record 76 = .ok (.istore_n 2, 1) := dk_61 (dk_at dksX4_record_3 0 rfl rfl)
theorem dX4_record_77 : decode cX4_record 77 = .ok (.goto 28, 3) := dk_167 0 28 (dk_at dksX4_record_3 1 rfl rfl)
theorem dX4_record_80 : decode cX4_record 80 = .ok (.aload_n 1, 1) := dk_43 (dk_at dksX4_record_3 4 rfl rfl)
theorem dX4_record_81 : decode cX4_record 81 = .ok (.ldc 130, 2) := dk_18 130 (dk_at dksX4_record_3 5 rfl rfl)
theorem dX4_record_83 : decode cX4_record 83 = .ok (.invokevirtual 99, 3) := dk_182 0 99 (dk_at dksX4_record_3 7 rfl rfl)
theorem dX4_record_86 : decode cX4_record 86 = .ok (.ifCond .eq 19, 3) := dk_153 0 19 (dk_at dksX4_record_3 10 rfl rfl)
theorem dX4_record_89 : decode cX4_record 89 = .ok (.iconst 2, 1) := dk_5 (dk_at dksX4_record_3 13 rfl rfl)
theorem dX4_record_90 : decode cX4_record 90 = .ok (.istore_n 2, 1) := dk_61 (dk_at dksX4_record_3 14 rfl rfl)
theorem dX4_record_91 : decode cX4_record 91 = .ok (.goto 14, 3) := dk_167 0 14 (dk_at dksX4_record_3 15 rfl rfl)
theorem dX4_record_94 : decode cX4_record 94 = .ok (.aload_n 1, 1) := dk_43 (dk_at dksX4_record_3 18 rfl rfl)
theorem dX4_record_95 : decode cX4_record 95 = .ok (.ldc 132, 2) := dk_18 132 (dk_at dksX4_record_3 19 rfl rfl)
theorem dX4_record_97 : decode cX4_record 97 = .ok (.invokevirtual 99, 3) := dk_182 0 99 (dk_at dksX4_record_3 21 rfl rfl)
theorem dX4_record_100 : decode cX4_record 100 = .ok (.ifCond .eq 5, 3) := dk_153 0 5 (dk_at dksX4_record_4 0 rfl rfl)
theorem dX4_record_103 : decode cX4_record 103 = .ok (.iconst 3, 1) := dk_6 (dk_at dksX4_record_4 3 rfl rfl)
theorem dX4_record_104 : decode cX4_record 104 = .ok (.istore_n 2, 1) := dk_61 (dk_at dksX4_record_4 4 rfl rfl)
theorem dX4_record_105 : decode cX4_record 105 = .ok (.iload_n 2, 1) := dk_28 (dk_at dksX4_record_4 5 rfl rfl)
theorem dX4_record_106 : decode cX4_record 106 = .ok (.tableswitch 228 0 3 #[30, 65, 138, 197], 30) := by decide +kernel
theorem dX4_record_136 : decode cX4_record 136 = .ok (.aload_n 0, 1) := dk_42 (dk_at dksX4_record_6 0 rfl rfl)
theorem dX4_record_137 : decode cX4_record 137 = .ok (.aload_n 0, 1) := dk_42 (dk_at dksX4_record_6 1 rfl rfl)
theorem dX4_record_138 : decode cX4_record 138 = .ok (.getfield 25, 3) := dk_180 0 25 (dk_at dksX4_record_6 2 rfl rfl)
theorem dX4_record_141 : decode cX4_record 141 = .ok (.getfield 134, 3) := dk_180 0 134 (dk_at dksX4_record_6 5 rfl rfl)
theorem dX4_record_144 : decode cX4_record 144 = .ok (.invokevirtual 140, 3) := dk_182 0 140 (dk_at dksX4_record_6 8 rfl rfl)
theorem dX4_record_147 : decode cX4_record 147 = .ok (.iconst 3, 1) := dk_6 (dk_at dksX4_record_6 11 rfl rfl)
theorem dX4_record_148 : decode cX4_record 148 = .ok (.if_icmp .ge 7, 3) := dk_162 0 7 (dk_at dksX4_record_6 12 rfl rfl)
theorem dX4_record_151 : decode cX4_record 151 = .ok (.iconst 1, 1) := dk_4 (dk_at dksX4_record_6 15 rfl rfl)
theorem dX4_record_152 : decode cX4_record 152 = .ok (.goto 4, 3) := dk_167 0 4 (dk_at dksX4_record_6 16 rfl rfl)
theorem dX4_record_155 : decode cX4_record 155 = .ok (.iconst 0, 1) := dk_3 (dk_at dksX4_record_6 19 rfl rfl)
theorem dX4_record_156 : decode cX4_record 156 = .ok (.iconst 4, 1) := dk_7 (dk_at dksX4_record_6 20 rfl rfl)
theorem dX4_record_157 : decode cX4_record 157 = .ok (.invokevirtual 95, 3) := dk_182 0 95 (dk_at dksX4_record_6 21 rfl rfl)
theorem dX4_record_160 : decode cX4_record 160 = .ok (.aload_n 0, 1) := dk_42 (dk_at dksX4_record_7 0 rfl rfl)
theorem dX4_record_161 : decode cX4_record 161 = .ok (.invokevirtual 29, 3) := dk_182 0 29 (dk_at dksX4_record_7 1 rfl rfl)
theorem dX4_record_164 : decode cX4_record 164 = .ok (.aload_n 0, 1) := dk_42 (dk_at dksX4_record_7 4 rfl rfl)
theorem dX4_record_165 : decode cX4_record 165 = .ok (.invokevirtual 145, 3) := dk_182 0 145 (dk_at dksX4_record_7 5 rfl rfl)
theorem dX4_record_168 : decode cX4_record 168 = .ok (.goto 180, 3) := dk_167 0 180 (dk_at dksX4_record_7 8 rfl rfl)
theorem dX4_record_171 : decode cX4_record 171 = .ok (.aload_n 0, 1) := dk_42 (dk_at dksX4_record_7 11 rfl rfl)
theorem dX4_record_172 : decode cX4_record 172 = .ok (.aload_n 0, 1) := dk_42 (dk_at dksX4_record_7 12 rfl rfl)
theorem dX4_record_173 : decode cX4_record 173 = .ok (.getfield 25, 3) := dk_180 0 25 (dk_at dksX4_record_7 13 rfl rfl)
theorem dX4_record_176 : decode cX4_record 176 = .ok (.getfield 147, 3) := dk_180 0 147 (dk_at dksX4_record_7 16 rfl rfl)
theorem dX4_record_179 : decode cX4_record 179 = .ok (.invokevirtual 140, 3) := dk_182 0 140 (dk_at dksX4_record_7 19 rfl rfl)
theorem dX4_record_182 : decode cX4_record 182 = .ok (.bipush 6, 2) := dk_16 6 (dk_at dksX4_record_7 22 rfl rfl)
theorem dX4_record_184 : decode cX4_record 184 = .ok (.if_icmp .ge 7, 3) := dk_162 0 7 (dk_at dksX4_record_8 0 rfl rfl)
theorem dX4_record_187 : decode cX4_record 187 = .ok (.iconst 1, 1) := dk_4 (dk_at dksX4_record_8 3 rfl rfl)
theorem dX4_record_188 : decode cX4_record 188 = .ok (.goto 4, 3) := dk_167 0 4 (dk_at dksX4_record_8 4 rfl rfl)
theorem dX4_record_191 : decode cX4_record 191 = .ok (.iconst 0, 1) := dk_3 (dk_at dksX4_record_8 7 rfl rfl)
theorem dX4_record_192 : decode cX4_record 192 = .ok (.iconst 4, 1) := dk_7 (dk_at dksX4_record_8 8 rfl rfl)
theorem dX4_record_193 : decode cX4_record 193 = .ok (.invokevirtual 95, 3) := dk_182 0 95 (dk_at dksX4_record_8 9 rfl rfl)
theorem dX4_record_196 : decode cX4_record 196 = .ok (.aload_n 0, 1) := dk_42 (dk_at dksX4_record_8 12 rfl rfl)
theorem dX4_record_197 : decode cX4_record 197 = .ok (.invokevirtual 29, 3) := dk_182 0 29 (dk_at dksX4_record_8 13 rfl rfl)
theorem dX4_record_200 : decode cX4_record 200 = .ok (.aload_n 0, 1) := dk_42 (dk_at dksX4_record_8 16 rfl rfl)
theorem dX4_record_201 : decode cX4_record 201 = .ok (.invokevirtual 150, 3) := dk_182 0 150 (dk_at dksX4_record_8 17 rfl rfl)
theorem dX4_record_204 : decode cX4_record 204 = .ok (.astore_n 3, 1) := dk_78 (dk_at dksX4_record_8 20 rfl rfl)
theorem dX4_record_205 : decode cX4_record 205 = .ok (.aload_n 0, 1) := dk_42 (dk_at dksX4_record_8 21 rfl rfl)
theorem dX4_record_206 : decode cX4_record 206 = .ok (.aload_n 0, 1) := dk_42 (dk_at dksX4_record_8 22 rfl rfl)
theorem dX4_record_207 : decode cX4_record 207 = .ok (.getfield 25, 3) := dk_180 0 25 (dk_at dksX4_record_9 0 rfl rfl)
theorem dX4_record_210 : decode cX4_record 210 = .ok (.getfield 153, 3) := dk_180 0 153 (dk_at dksX4_record_9 3 rfl rfl)
theorem dX4_record_213 : decode cX4_record 213 = .ok (.aload_n 3, 1) := dk_45 (dk_at dksX4_record_9 6 rfl rfl)
theorem dX4_record_214 : decode cX4_record 214 = .ok (.invokevirtual 157, 3) := dk_182 0 157 (dk_at dksX4_record_9 7 rfl rfl)
theorem dX4_record_217 : decode cX4_record 217 = .ok (.ifCond .ne 7, 3) := dk_154 0 7 (dk_at dksX4_record_9 10 rfl rfl)
theorem dX4_record_220 : decode cX4_record 220 = .ok (.iconst 1, 1) := dk_4 (dk_at dksX4_record_9 13 rfl rfl)
theorem dX4_record_221 : decode cX4_record 221 = .ok (.goto 4, 3) := dk_167 0 4 (dk_at dksX4_record_9 14 rfl rfl)
theorem dX4_record_224 : decode cX4_record 224 = .ok (.iconst 0, 1) := dk_3 (dk_at dksX4_record_9 17 rfl rfl)
theorem dX4_record_225 : decode cX4_record 225 = .ok (.iconst 3, 1) := dk_6 (dk_at dksX4_record_9 18 rfl rfl)
theorem dX4_record_226 : decode cX4_record 226 = .ok (.invokevirtual 95, 3) := dk_182 0 95 (dk_at dksX4_record_9 19 rfl rfl)
theorem dX4_record_229 : decode cX4_record 229 = .ok (.aload_n 0, 1) := dk_42 (dk_at dksX4_record_9 22 rfl rfl)
theorem dX4_record_230 : decode cX4_record 230 = .ok (.invokevirtual 29, 3) := dk_182 0 29 (dk_at dksX4_record_10 0 rfl rfl)
theorem dX4_record_233 : decode cX4_record 233 = .ok (.aload_n 0, 1) := dk_42 (dk_at dksX4_record_10 3 rfl rfl)
theorem dX4_record_234 : decode cX4_record 234 = .ok (.getfield 25, 3) := dk_180 0 25 (dk_at dksX4_record_10 4 rfl rfl)
theorem dX4_record_237 : decode cX4_record 237 = .ok (.aload_n 3, 1) := dk_45 (dk_at dksX4_record_10 7 rfl rfl)
theorem dX4_record_238 : decode cX4_record 238 = .ok (.invokevirtual 162, 3) := dk_182 0 162 (dk_at dksX4_record_10 8 rfl rfl)
theorem dX4_record_241 : decode cX4_record 241 = .ok (.goto 107, 3) := dk_167 0 107 (dk_at dksX4_record_10 11 rfl rfl)
theorem dX4_record_244 : decode cX4_record 244 = .ok (.aload_n 0, 1) := dk_42 (dk_at dksX4_record_10 14 rfl rfl)
theorem dX4_record_245 : decode cX4_record 245 = .ok (.aload_n 0, 1) := dk_42 (dk_at dksX4_record_10 15 rfl rfl)
theorem dX4_record_246 : decode cX4_record 246 = .ok (.getfield 25, 3) := dk_180 0 25 (dk_at dksX4_record_10 16 rfl rfl)
theorem dX4_record_249 : decode cX4_record 249 = .ok (.getfield 165, 3) := dk_180 0 165 (dk_at dksX4_record_10 19 rfl rfl)
theorem dX4_record_252 : decode cX4_record 252 = .ok (.invokevirtual 140, 3) := dk_182 0 140 (dk_at dksX4_record_11 0 rfl rfl)
theorem dX4_record_255 : decode cX4_record 255 = .ok (.bipush 40, 2) := dk_16 40 (dk_at dksX4_record_11 3 rfl rfl)
theorem dX4_record_257 : decode cX4_record 257 = .ok (.if_icmp .ge 7, 3) := dk_162 0 7 (dk_at dksX4_record_11 5 rfl rfl)
theorem dX4_record_260 : decode cX4_record 260 = .ok (.iconst 1, 1) := dk_4 (dk_at dksX4_record_11 8 rfl rfl)
theorem dX4_record_261 : decode cX4_record 261 = .ok (.goto 4, 3) := dk_167 0 4 (dk_at dksX4_record_11 9 rfl rfl)
theorem dX4_record_264 : decode cX4_record 264 = .ok (.iconst 0, 1) := dk_3 (dk_at dksX4_record_11 12 rfl rfl)
theorem dX4_record_265 : decode cX4_record 265 = .ok (.iconst 4, 1) := dk_7 (dk_at dksX4_record_11 13 rfl rfl)
theorem dX4_record_266 : decode cX4_record 266 = .ok (.invokevirtual 95, 3) := dk_182 0 95 (dk_at dksX4_record_11 14 rfl rfl)
theorem dX4_record_269 : decode cX4_record 269 = .ok (.aload_n 0, 1) := dk_42 (dk_at dksX4_record_11 17 rfl rfl)
theorem dX4_record_270 : decode cX4_record 270 = .ok (.aload_n 0, 1) := dk_42 (dk_at dksX4_record_11 18 rfl rfl)
theorem dX4_record_271 : decode cX4_record 271 = .ok (.getfield 25, 3) := dk_180 0 25 (dk_at dksX4_record_11 19 rfl rfl)
theorem dX4_record_274 : decode cX4_record 274 = .ok (.getfield 134, 3) := dk_180 0 134 (dk_at dksX4_record_12 0 rfl rfl)
theorem dX4_record_277 : decode cX4_record 277 = .ok (.invokevirtual 168, 3) := dk_182 0 168 (dk_at dksX4_record_12 3 rfl rfl)
theorem dX4_record_280 : decode cX4_record 280 = .ok (.ifCond .ne 7, 3) := dk_154 0 7 (dk_at dksX4_record_12 6 rfl rfl)
theorem dX4_record_283 : decode cX4_record 283 = .ok (.iconst 1, 1) := dk_4 (dk_at dksX4_record_12 9 rfl rfl)
theorem dX4_record_284 : decode cX4_record 284 = .ok (.goto 4, 3) := dk_167 0 4 (dk_at dksX4_record_12 10 rfl rfl)
theorem dX4_record_287 : decode cX4_record 287 = .ok (.iconst 0, 1) := dk_3 (dk_at dksX4_record_12 13 rfl rfl)
theorem dX4_record_288 : decode cX4_record 288 = .ok (.iconst 5, 1) := dk_8 (dk_at dksX4_record_12 14 rfl rfl)
theorem dX4_record_289 : decode cX4_record 289 = .ok (.invokevirtual 95, 3) := dk_182 0 95 (dk_at dksX4_record_12 15 rfl rfl)
theorem dX4_record_292 : decode cX4_record 292 = .ok (.aload_n 0, 1) := dk_42 (dk_at dksX4_record_12 18 rfl rfl)
theorem dX4_record_293 : decode cX4_record 293 = .ok (.invokevirtual 29, 3) := dk_182 0 29 (dk_at dksX4_record_12 19 rfl rfl)
theorem dX4_record_296 : decode cX4_record 296 = .ok (.aload_n 0, 1) := dk_42 (dk_at dksX4_record_12 22 rfl rfl)
theorem dX4_record_297 : decode cX4_record 297 = .ok (.invokevirtual 172, 3) := dk_182 0 172 (dk_at dksX4_record_13 0 rfl rfl)
theorem dX4_record_300 : decode cX4_record 300 = .ok (.goto 48, 3) := dk_167 0 48 (dk_at dksX4_record_13 3 rfl rfl)
theorem dX4_record_303 : decode cX4_record 303 = .ok (.aload_n 0, 1) := dk_42 (dk_at dksX4_record_13 6 rfl rfl)
theorem dX4_record_304 : decode cX4_record 304 = .ok (.invokevirtual 29, 3) := dk_182 0 29 (dk_at dksX4_record_13 7 rfl rfl)
theorem dX4_record_307 : decode cX4_record 307 = .ok (.aload_n 0, 1) := dk_42 (dk_at dksX4_record_13 10 rfl rfl)
theorem dX4_record_308 : decode cX4_record 308 = .ok (.getfield 25, 3) := dk_180 0 25 (dk_at dksX4_record_13 11 rfl rfl)
theorem dX4_record_311 : decode cX4_record 311 = .ok (.aload_n 0, 1) := dk_42 (dk_at dksX4_record_13 14 rfl rfl)
theorem dX4_record_312 : decode cX4_record 312 = .ok (.iconst 0, 1) := dk_3 (dk_at dksX4_record_13 15 rfl rfl)
theorem dX4_record_313 : decode cX4_record 313 = .ok (.aload_n 0, 1) := dk_42 (dk_at dksX4_record_13 16 rfl rfl)
theorem dX4_record_314 : decode cX4_record 314 = .ok (.getfield 25, 3) := dk_180 0 25 (dk_at dksX4_record_13 17 rfl rfl)
theorem dX4_record_317 : decode cX4_record 317 = .ok (.getfield 134, 3) := dk_180 0 134 (dk_at dksX4_record_13 20 rfl rfl)
theorem dX4_record_320 : decode cX4_record 320 = .ok (.invokevirtual 140, 3) := dk_182 0 140 (dk_at dksX4_record_14 0 rfl rfl)
theorem dX4_record_323 : decode cX4_record 323 = .ok (.iconst 1, 1) := dk_4 (dk_at dksX4_record_14 3 rfl rfl)
theorem dX4_record_324 : decode cX4_record 324 = .ok (.isub, 1) := dk_100 (dk_at dksX4_record_14 4 rfl rfl)
theorem dX4_record_325 : decode cX4_record 325 = .ok (.invokevirtual 174, 3) := dk_182 0 174 (dk_at dksX4_record_14 5 rfl rfl)
theorem dX4_record_328 : decode cX4_record 328 = .ok (.putfield 176, 3) := dk_181 0 176 (dk_at dksX4_record_14 8 rfl rfl)
theorem dX4_record_331 : decode cX4_record 331 = .ok (.goto 17, 3) := dk_167 0 17 (dk_at dksX4_record_14 11 rfl rfl)
theorem dX4_record_334 : decode cX4_record 334 = .ok (.new 90, 3) := dk_187 0 90 (dk_at dksX4_record_14 14 rfl rfl)
theorem dX4_record_337 : decode cX4_record 337 = .ok (.dup, 1) := dk_89 (dk_at dksX4_record_14 17 rfl rfl)
theorem dX4_record_338 : decode cX4_record 338 = .ok (.iconst 1, 1) := dk_4 (dk_at dksX4_record_14 18 rfl rfl)
theorem dX4_record_339 : decode cX4_record 339 = .ok (.aload_n 0, 1) := dk_42 (dk_at dksX4_record_14 19 rfl rfl)
theorem dX4_record_340 : decode cX4_record 340 = .ok (.getfield 47, 3) := dk_180 0 47 (dk_at dksX4_record_14 20 rfl rfl)
theorem dX4_record_343 : decode cX4_record 343 = .ok (.aconst_null, 1) := dk_1 (dk_at dksX4_record_14 23 rfl rfl)
theorem dX4_record_344 : decode cX4_record 344 = .ok (.invokespecial 92, 3) := dk_183 0 92 (dk_at dksX4_record_15 0 rfl rfl)
theorem dX4_record_347 : decode cX4_record 347 = .ok (.athrow, 1) := dk_191 (dk_at dksX4_record_15 3 rfl rfl)
theorem dX4_record_348 : decode cX4_record 348 = .ok (.return_, 1) := dk_177 (dk_at dksX4_record_15 4 rfl rfl)
abbrev cX4_require : ByteArray := prog_12_method_4_code
def yX4_require : MethodName := ⟨RX4, "require", "(ZI)V"⟩
def dkwX4_require_0 : List UInt8 := [27, 154, 0, 17, 187, 0, 90, 89, 28, 42, 180, 0, 47, 1, 183, 0, 92, 191, 177]
abbrev dktX4_require_0 : List UInt8 := dkwX4_require_0 ++ []
theorem dksX4_require_0 : cX4_require.data.toList.drop 0 = dktX4_require_0 := by decide +kernel
theorem dX4_require_0 : decode cX4_require 0 = .ok (.iload_n 1, 1) := dk_27 (dk_at dksX4_require_0 0 rfl rfl)
theorem dX4_require_1 : decode cX4_require 1 = .ok (.ifCond .ne 17, 3) := dk_154 0 17 (dk_at dksX4_require_0 1 rfl rfl)
theorem dX4_require_4 : decode cX4_require 4 = .ok (.new 90, 3) := dk_187 0 90 (dk_at dksX4_require_0 4 rfl rfl)
theorem dX4_require_7 : decode cX4_require 7 = .ok (.dup, 1) := dk_89 (dk_at dksX4_require_0 7 rfl rfl)
theorem dX4_require_8 : decode cX4_require 8 = .ok (.iload_n 2, 1) := dk_28 (dk_at dksX4_require_0 8 rfl rfl)
theorem dX4_require_9 : decode cX4_require 9 = .ok (.aload_n 0, 1) := dk_42 (dk_at dksX4_require_0 9 rfl rfl)
theorem dX4_require_10 : decode cX4_require 10 = .ok (.getfield 47, 3) := dk_180 0 47 (dk_at dksX4_require_0 10 rfl rfl)
theorem dX4_require_13 : decode cX4_require 13 = .ok (.aconst_null, 1) := dk_1 (dk_at dksX4_require_0 13 rfl rfl)
theorem dX4_require_14 : decode cX4_require 14 = .ok (.invokespecial 92, 3) := dk_183 0 92 (dk_at dksX4_require_0 14 rfl rfl)
theorem dX4_require_17 : decode cX4_require 17 = .ok (.athrow, 1) := dk_191 (dk_at dksX4_require_0 17 rfl rfl)
theorem dX4_require_18 : decode cX4_require 18 = .ok (.return_, 1) := dk_177 (dk_at dksX4_require_0 18 rfl rfl)
abbrev cX4_edition : ByteArray := prog_12_method_11_code
def yX4_edition : MethodName := ⟨RX4, "edition", "()V"⟩
def dkwX4_edition_5 : List UInt8 := [180, 0, 25, 44, 182, 0, 190, 62, 177]
abbrev dktX4_edition_5 : List UInt8 := dkwX4_edition_5 ++ []
def dkwX4_edition_4 : List UInt8 := [182, 0, 186, 42, 180, 0, 69, 154, 255, 183, 42, 180, 0, 17, 18, 183, 182, 0, 99, 154, 255, 171, 42]
abbrev dktX4_edition_4 : List UInt8 := dkwX4_edition_4 ++ dktX4_edition_5
def dkwX4_edition_3 : List UInt8 := [182, 0, 29, 44, 25, 4, 29, 154, 0, 10, 44, 182, 0, 185, 154, 0, 7, 4, 167, 0, 4, 3]
abbrev dktX4_edition_3 : List UInt8 := dkwX4_edition_3 ++ dktX4_edition_4
def dkwX4_edition_2 : List UInt8 := [58, 4, 42, 44, 182, 0, 185, 16, 120, 162, 0, 7, 4, 167, 0, 4, 3, 7, 182, 0, 95, 42]
abbrev dktX4_edition_2 : List UInt8 := dkwX4_edition_2 ++ dktX4_edition_3
def dkwX4_edition_1 : List UInt8 := [77, 42, 180, 0, 17, 18, 183, 182, 0, 99, 62, 29, 153, 0, 7, 42, 182, 0, 29, 42, 182, 0, 150]
abbrev dktX4_edition_1 : List UInt8 := dkwX4_edition_1 ++ dktX4_edition_2
def dkwX4_edition_0 : List UInt8 := [42, 16, 8, 16, 60, 182, 0, 174, 60, 187, 0, 178, 89, 27, 42, 4, 16, 40, 182, 0, 174, 183, 0, 180]
abbrev dktX4_edition_0 : List UInt8 := dkwX4_edition_0 ++ dktX4_edition_1
theorem dksX4_edition_0 : cX4_edition.data.toList.drop 0 = dktX4_edition_0 := by decide +kernel
theorem dksX4_edition_1 : cX4_edition.data.toList.drop 24 = dktX4_edition_1 := dk_seg dksX4_edition_0 24 rfl rfl
theorem dksX4_edition_2 : cX4_edition.data.toList.drop 47 = dktX4_edition_2 := dk_seg dksX4_edition_1 23 rfl rfl
theorem dksX4_edition_3 : cX4_edition.data.toList.drop 69 = dktX4_edition_3 := dk_seg dksX4_edition_2 22 rfl rfl
theorem dksX4_edition_4 : cX4_edition.data.toList.drop 91 = dktX4_edition_4 := dk_seg dksX4_edition_3 22 rfl rfl
theorem dksX4_edition_5 : cX4_edition.data.toList.drop 114 = dktX4_edition_5 := dk_seg dksX4_edition_4 23 rfl rfl
theorem dX4_edition_0 : decode cX4_edition 0 = .ok (.aload_n 0, 1) := dk_42 (dk_at dksX4_edition_0 0 rfl rfl)
theorem dX4_edition_1 : decode cX4_edition 1 = .ok (.bipush 8, 2) := dk_16 8 (dk_at dksX4_edition_0 1 rfl rfl)
theorem dX4_edition_3 : decode cX4_edition 3 = .ok (.bipush 60, 2) := dk_16 60 (dk_at dksX4_edition_0 3 rfl rfl)
theorem dX4_edition_5 : decode cX4_edition 5 = .ok (.invokevirtual 174, 3) := dk_182 0 174 (dk_at dksX4_edition_0 5 rfl rfl)
theorem dX4_edition_8 : decode cX4_edition 8 = .ok (.istore_n 1, 1) := dk_60 (dk_at dksX4_edition_0 8 rfl rfl)
theorem dX4_edition_9 : decode cX4_edition 9 = .ok (.new 178, 3) := dk_187 0 178 (dk_at dksX4_edition_0 9 rfl rfl)
theorem dX4_edition_12 : decode cX4_edition 12 = .ok (.dup, 1) := dk_89 (dk_at dksX4_edition_0 12 rfl rfl)
theorem dX4_edition_13 : decode cX4_edition 13 = .ok (.iload_n 1, 1) := dk_27 (dk_at dksX4_edition_0 13 rfl rfl)
theorem dX4_edition_14 : decode cX4_edition 14 = .ok (.aload_n 0, 1) := dk_42 (dk_at dksX4_edition_0 14 rfl rfl)
theorem dX4_edition_15 : decode cX4_edition 15 = .ok (.iconst 1, 1) := dk_4 (dk_at dksX4_edition_0 15 rfl rfl)
theorem dX4_edition_16 : decode cX4_edition 16 = .ok (.bipush 40, 2) := dk_16 40 (dk_at dksX4_edition_0 16 rfl rfl)
theorem dX4_edition_18 : decode cX4_edition 18 = .ok (.invokevirtual 174, 3) := dk_182 0 174 (dk_at dksX4_edition_0 18 rfl rfl)
theorem dX4_edition_21 : decode cX4_edition 21 = .ok (.invokespecial 180, 3) := dk_183 0 180 (dk_at dksX4_edition_0 21 rfl rfl)
theorem dX4_edition_24 : decode cX4_edition 24 = .ok (.astore_n 2, 1) := dk_77 (dk_at dksX4_edition_1 0 rfl rfl)
theorem dX4_edition_25 : decode cX4_edition 25 = .ok (.aload_n 0, 1) := dk_42 (dk_at dksX4_edition_1 1 rfl rfl)
theorem dX4_edition_26 : decode cX4_edition 26 = .ok (.getfield 17, 3) := dk_180 0 17 (dk_at dksX4_edition_1 2 rfl rfl)
theorem dX4_edition_29 : decode cX4_edition 29 = .ok (.ldc 183, 2) := dk_18 183 (dk_at dksX4_edition_1 5 rfl rfl)
theorem dX4_edition_31 : decode cX4_edition 31 = .ok (.invokevirtual 99, 3) := dk_182 0 99 (dk_at dksX4_edition_1 7 rfl rfl)
theorem dX4_edition_34 : decode cX4_edition 34 = .ok (.istore_n 3, 1) := dk_62 (dk_at dksX4_edition_1 10 rfl rfl)
theorem dX4_edition_35 : decode cX4_edition 35 = .ok (.iload_n 3, 1) := dk_29 (dk_at dksX4_edition_1 11 rfl rfl)
theorem dX4_edition_36 : decode cX4_edition 36 = .ok (.ifCond .eq 7, 3) := dk_153 0 7 (dk_at dksX4_edition_1 12 rfl rfl)
theorem dX4_edition_39 : decode cX4_edition 39 = .ok (.aload_n 0, 1) := dk_42 (dk_at dksX4_edition_1 15 rfl rfl)
theorem dX4_edition_40 : decode cX4_edition 40 = .ok (.invokevirtual 29, 3) := dk_182 0 29 (dk_at dksX4_edition_1 16 rfl rfl)
theorem dX4_edition_43 : decode cX4_edition 43 = .ok (.aload_n 0, 1) := dk_42 (dk_at dksX4_edition_1 19 rfl rfl)
theorem dX4_edition_44 : decode cX4_edition 44 = .ok (.invokevirtual 150, 3) := dk_182 0 150 (dk_at dksX4_edition_1 20 rfl rfl)
theorem dX4_edition_47 : decode cX4_edition 47 = .ok (.astore 4, 2) := dk_58 4 (dk_at dksX4_edition_2 0 rfl rfl)
theorem dX4_edition_49 : decode cX4_edition 49 = .ok (.aload_n 0, 1) := dk_42 (dk_at dksX4_edition_2 2 rfl rfl)
theorem dX4_edition_50 : decode cX4_edition 50 = .ok (.aload_n 2, 1) := dk_44 (dk_at dksX4_edition_2 3 rfl rfl)
theorem dX4_edition_51 : decode cX4_edition 51 = .ok (.invokevirtual 185, 3) := dk_182 0 185 (dk_at dksX4_edition_2 4 rfl rfl)
theorem dX4_edition_54 : decode cX4_edition 54 = .ok (.bipush 120, 2) := dk_16 120 (dk_at dksX4_edition_2 7 rfl rfl)
theorem dX4_edition_56 : decode cX4_edition 56 = .ok (.if_icmp .ge 7, 3) := dk_162 0 7 (dk_at dksX4_edition_2 9 rfl rfl)
theorem dX4_edition_59 : decode cX4_edition 59 = .ok (.iconst 1, 1) := dk_4 (dk_at dksX4_edition_2 12 rfl rfl)
theorem dX4_edition_60 : decode cX4_edition 60 = .ok (.goto 4, 3) := dk_167 0 4 (dk_at dksX4_edition_2 13 rfl rfl)
theorem dX4_edition_63 : decode cX4_edition 63 = .ok (.iconst 0, 1) := dk_3 (dk_at dksX4_edition_2 16 rfl rfl)
theorem dX4_edition_64 : decode cX4_edition 64 = .ok (.iconst 4, 1) := dk_7 (dk_at dksX4_edition_2 17 rfl rfl)
theorem dX4_edition_65 : decode cX4_edition 65 = .ok (.invokevirtual 95, 3) := dk_182 0 95 (dk_at dksX4_edition_2 18 rfl rfl)
theorem dX4_edition_68 : decode cX4_edition 68 = .ok (.aload_n 0, 1) := dk_42 (dk_at dksX4_edition_2 21 rfl rfl)
theorem dX4_edition_69 : decode cX4_edition 69 = .ok (.invokevirtual 29, 3) := dk_182 0 29 (dk_at dksX4_edition_3 0 rfl rfl)
theorem dX4_edition_72 : decode cX4_edition 72 = .ok (.aload_n 2, 1) := dk_44 (dk_at dksX4_edition_3 3 rfl rfl)
theorem dX4_edition_73 : decode cX4_edition 73 = .ok (.aload 4, 2) := dk_25 4 (dk_at dksX4_edition_3 4 rfl rfl)
theorem dX4_edition_75 : decode cX4_edition 75 = .ok (.iload_n 3, 1) := dk_29 (dk_at dksX4_edition_3 6 rfl rfl)
theorem dX4_edition_76 : decode cX4_edition 76 = .ok (.ifCond .ne 10, 3) := dk_154 0 10 (dk_at dksX4_edition_3 7 rfl rfl)
theorem dX4_edition_79 : decode cX4_edition 79 = .ok (.aload_n 2, 1) := dk_44 (dk_at dksX4_edition_3 10 rfl rfl)
theorem dX4_edition_80 : decode cX4_edition 80 = .ok (.invokevirtual 185, 3) := dk_182 0 185 (dk_at dksX4_edition_3 11 rfl rfl)
theorem dX4_edition_83 : decode cX4_edition 83 = .ok (.ifCond .ne 7, 3) := dk_154 0 7 (dk_at dksX4_edition_3 14 rfl rfl)
theorem dX4_edition_86 : decode cX4_edition 86 = .ok (.iconst 1, 1) := dk_4 (dk_at dksX4_edition_3 17 rfl rfl)
theorem dX4_edition_87 : decode cX4_edition 87 = .ok (.goto 4, 3) := dk_167 0 4 (dk_at dksX4_edition_3 18 rfl rfl)
theorem dX4_edition_90 : decode cX4_edition 90 = .ok (.iconst 0, 1) := dk_3 (dk_at dksX4_edition_3 21 rfl rfl)
theorem dX4_edition_91 : decode cX4_edition 91 = .ok (.invokevirtual 186, 3) := dk_182 0 186 (dk_at dksX4_edition_4 0 rfl rfl)
theorem dX4_edition_94 : decode cX4_edition 94 = .ok (.aload_n 0, 1) := dk_42 (dk_at dksX4_edition_4 3 rfl rfl)
theorem dX4_edition_95 : decode cX4_edition 95 = .ok (.getfield 69, 3) := dk_180 0 69 (dk_at dksX4_edition_4 4 rfl rfl)
theorem dX4_edition_98 : decode cX4_edition 98 = .ok (.ifCond .ne (-73), 3) := dk_154 255 183 (dk_at dksX4_edition_4 7 rfl rfl)
theorem dX4_edition_101 : decode cX4_edition 101 = .ok (.aload_n 0, 1) := dk_42 (dk_at dksX4_edition_4 10 rfl rfl)
theorem dX4_edition_102 : decode cX4_edition 102 = .ok (.getfield 17, 3) := dk_180 0 17 (dk_at dksX4_edition_4 11 rfl rfl)
theorem dX4_edition_105 : decode cX4_edition 105 = .ok (.ldc 183, 2) := dk_18 183 (dk_at dksX4_edition_4 14 rfl rfl)
theorem dX4_edition_107 : decode cX4_edition 107 = .ok (.invokevirtual 99, 3) := dk_182 0 99 (dk_at dksX4_edition_4 16 rfl rfl)
theorem dX4_edition_110 : decode cX4_edition 110 = .ok (.ifCond .ne (-85), 3) := dk_154 255 171 (dk_at dksX4_edition_4 19 rfl rfl)
theorem dX4_edition_113 : decode cX4_edition 113 = .ok (.aload_n 0, 1) := dk_42 (dk_at dksX4_edition_4 22 rfl rfl)
theorem dX4_edition_114 : decode cX4_edition 114 = .ok (.getfield 25, 3) := dk_180 0 25 (dk_at dksX4_edition_5 0 rfl rfl)
theorem dX4_edition_117 : decode cX4_edition 117 = .ok (.aload_n 2, 1) := dk_44 (dk_at dksX4_edition_5 3 rfl rfl)
theorem dX4_edition_118 : decode cX4_edition 118 = .ok (.invokevirtual 190, 3) := dk_182 0 190 (dk_at dksX4_edition_5 4 rfl rfl)
theorem dX4_edition_121 : decode cX4_edition 121 = .ok (.istore_n 3, 1) := dk_62 (dk_at dksX4_edition_5 7 rfl rfl)
theorem dX4_edition_122 : decode cX4_edition 122 = .ok (.return_, 1) := dk_177 (dk_at dksX4_edition_5 8 rfl rfl)
abbrev cX4_number : ByteArray := prog_12_method_5_code
def yX4_number : MethodName := ⟨RX4, "number", "(II)I"⟩
def dkwX4_number_1 : List UInt8 := [182, 0, 95, 42, 180, 0, 50, 62, 42, 182, 0, 29, 29, 172]
abbrev dktX4_number_1 : List UInt8 := dkwX4_number_1 ++ []
def dkwX4_number_0 : List UInt8 := [42, 42, 180, 0, 61, 4, 182, 0, 95, 42, 42, 180, 0, 50, 133, 27, 133, 28, 133, 184, 0, 57, 5]
abbrev dktX4_number_0 : List UInt8 := dkwX4_number_0 ++ dktX4_number_1
theorem dksX4_number_0 : cX4_number.data.toList.drop 0 = dktX4_number_0 := by decide +kernel
theorem dksX4_number_1 : cX4_number.data.toList.drop 23 = dktX4_number_1 := dk_seg dksX4_number_0 23 rfl rfl
theorem dX4_number_0 : decode cX4_number 0 = .ok (.aload_n 0, 1) := dk_42 (dk_at dksX4_number_0 0 rfl rfl)
theorem dX4_number_1 : decode cX4_number 1 = .ok (.aload_n 0, 1) := dk_42 (dk_at dksX4_number_0 1 rfl rfl)
theorem dX4_number_2 : decode cX4_number 2 = .ok (.getfield 61, 3) := dk_180 0 61 (dk_at dksX4_number_0 2 rfl rfl)
theorem dX4_number_5 : decode cX4_number 5 = .ok (.iconst 1, 1) := dk_4 (dk_at dksX4_number_0 5 rfl rfl)
theorem dX4_number_6 : decode cX4_number 6 = .ok (.invokevirtual 95, 3) := dk_182 0 95 (dk_at dksX4_number_0 6 rfl rfl)
theorem dX4_number_9 : decode cX4_number 9 = .ok (.aload_n 0, 1) := dk_42 (dk_at dksX4_number_0 9 rfl rfl)
theorem dX4_number_10 : decode cX4_number 10 = .ok (.aload_n 0, 1) := dk_42 (dk_at dksX4_number_0 10 rfl rfl)
theorem dX4_number_11 : decode cX4_number 11 = .ok (.getfield 50, 3) := dk_180 0 50 (dk_at dksX4_number_0 11 rfl rfl)
theorem dX4_number_14 : decode cX4_number 14 = .ok (.i2l, 1) := dk_133 (dk_at dksX4_number_0 14 rfl rfl)
theorem dX4_number_15 : decode cX4_number 15 = .ok (.iload_n 1, 1) := dk_27 (dk_at dksX4_number_0 15 rfl rfl)
theorem dX4_number_16 : decode cX4_number 16 = .ok (.i2l, 1) := dk_133 (dk_at dksX4_number_0 16 rfl rfl)
theorem dX4_number_17 : decode cX4_number 17 = .ok (.iload_n 2, 1) := dk_28 (dk_at dksX4_number_0 17 rfl rfl)
theorem dX4_number_18 : decode cX4_number 18 = .ok (.i2l, 1) := dk_133 (dk_at dksX4_number_0 18 rfl rfl)
theorem dX4_number_19 : decode cX4_number 19 = .ok (.invokestatic 57, 3) := dk_184 0 57 (dk_at dksX4_number_0 19 rfl rfl)
theorem dX4_number_22 : decode cX4_number 22 = .ok (.iconst 2, 1) := dk_5 (dk_at dksX4_number_0 22 rfl rfl)
theorem dX4_number_23 : decode cX4_number 23 = .ok (.invokevirtual 95, 3) := dk_182 0 95 (dk_at dksX4_number_1 0 rfl rfl)
theorem dX4_number_26 : decode cX4_number 26 = .ok (.aload_n 0, 1) := dk_42 (dk_at dksX4_number_1 3 rfl rfl)
theorem dX4_number_27 : decode cX4_number 27 = .ok (.getfield 50, 3) := dk_180 0 50 (dk_at dksX4_number_1 4 rfl rfl)
theorem dX4_number_30 : decode cX4_number 30 = .ok (.istore_n 3, 1) := dk_62 (dk_at dksX4_number_1 7 rfl rfl)
theorem dX4_number_31 : decode cX4_number 31 = .ok (.aload_n 0, 1) := dk_42 (dk_at dksX4_number_1 8 rfl rfl)
theorem dX4_number_32 : decode cX4_number 32 = .ok (.invokevirtual 29, 3) := dk_182 0 29 (dk_at dksX4_number_1 9 rfl rfl)
theorem dX4_number_35 : decode cX4_number 35 = .ok (.iload_n 3, 1) := dk_29 (dk_at dksX4_number_1 12 rfl rfl)
theorem dX4_number_36 : decode cX4_number 36 = .ok (.ireturn, 1) := dk_172 (dk_at dksX4_number_1 13 rfl rfl)
abbrev cX4_name : ByteArray := prog_12_method_8_code
def yX4_name : MethodName := ⟨RX4, "name", "()Ljava/lang/String;"⟩
def dkwX4_name_1 : List UInt8 := [180, 0, 47, 43, 183, 0, 92, 191]
abbrev dktX4_name_1 : List UInt8 := dkwX4_name_1 ++ []
def dkwX4_name_0 : List UInt8 := [42, 182, 0, 111, 176, 76, 187, 0, 90, 89, 42, 180, 0, 69, 153, 0, 7, 5, 167, 0, 4, 4, 42]
abbrev dktX4_name_0 : List UInt8 := dkwX4_name_0 ++ dktX4_name_1
theorem dksX4_name_0 : cX4_name.data.toList.drop 0 = dktX4_name_0 := by decide +kernel
theorem dksX4_name_1 : cX4_name.data.toList.drop 23 = dktX4_name_1 := dk_seg dksX4_name_0 23 rfl rfl
theorem dX4_name_0 : decode cX4_name 0 = .ok (.aload_n 0, 1) := dk_42 (dk_at dksX4_name_0 0 rfl rfl)
theorem dX4_name_1 : decode cX4_name 1 = .ok (.invokevirtual 111, 3) := dk_182 0 111 (dk_at dksX4_name_0 1 rfl rfl)
theorem dX4_name_4 : decode cX4_name 4 = .ok (.areturn, 1) := dk_176 (dk_at dksX4_name_0 4 rfl rfl)
theorem dX4_name_5 : decode cX4_name 5 = .ok (.astore_n 1, 1) := dk_76 (dk_at dksX4_name_0 5 rfl rfl)
theorem dX4_name_6 : decode cX4_name 6 = .ok (.new 90, 3) := dk_187 0 90 (dk_at dksX4_name_0 6 rfl rfl)
theorem dX4_name_9 : decode cX4_name 9 = .ok (.dup, 1) := dk_89 (dk_at dksX4_name_0 9 rfl rfl)
theorem dX4_name_10 : decode cX4_name 10 = .ok (.aload_n 0, 1) := dk_42 (dk_at dksX4_name_0 10 rfl rfl)
theorem dX4_name_11 : decode cX4_name 11 = .ok (.getfield 69, 3) := dk_180 0 69 (dk_at dksX4_name_0 11 rfl rfl)
theorem dX4_name_14 : decode cX4_name 14 = .ok (.ifCond .eq 7, 3) := dk_153 0 7 (dk_at dksX4_name_0 14 rfl rfl)
theorem dX4_name_17 : decode cX4_name 17 = .ok (.iconst 2, 1) := dk_5 (dk_at dksX4_name_0 17 rfl rfl)
theorem dX4_name_18 : decode cX4_name 18 = .ok (.goto 4, 3) := dk_167 0 4 (dk_at dksX4_name_0 18 rfl rfl)
theorem dX4_name_21 : decode cX4_name 21 = .ok (.iconst 1, 1) := dk_4 (dk_at dksX4_name_0 21 rfl rfl)
theorem dX4_name_22 : decode cX4_name 22 = .ok (.aload_n 0, 1) := dk_42 (dk_at dksX4_name_0 22 rfl rfl)
theorem dX4_name_23 : decode cX4_name 23 = .ok (.getfield 47, 3) := dk_180 0 47 (dk_at dksX4_name_1 0 rfl rfl)
theorem dX4_name_26 : decode cX4_name 26 = .ok (.aload_n 1, 1) := dk_43 (dk_at dksX4_name_1 3 rfl rfl)
theorem dX4_name_27 : decode cX4_name 27 = .ok (.invokespecial 92, 3) := dk_183 0 92 (dk_at dksX4_name_1 4 rfl rfl)
theorem dX4_name_30 : decode cX4_name 30 = .ok (.athrow, 1) := dk_191 (dk_at dksX4_name_1 7 rfl rfl)
abbrev cX4_word : ByteArray := prog_12_method_7_code
def yX4_word : MethodName := ⟨RX4, "word", "()Ljava/lang/String;"⟩
def dkwX4_word_1 : List UInt8 := [183, 0, 110, 191, 42, 180, 0, 17, 176]
abbrev dktX4_word_1 : List UInt8 := dkwX4_word_1 ++ []
def dkwX4_word_0 : List UInt8 := [42, 180, 0, 69, 153, 0, 15, 42, 180, 0, 17, 182, 0, 105, 16, 8, 164, 0, 11, 187, 0, 108, 89]
abbrev dktX4_word_0 : List UInt8 := dkwX4_word_0 ++ dktX4_word_1
theorem dksX4_word_0 : cX4_word.data.toList.drop 0 = dktX4_word_0 := by decide +kernel
theorem dksX4_word_1 : cX4_word.data.toList.drop 23 = dktX4_word_1 := dk_seg dksX4_word_0 23 rfl rfl
theorem dX4_word_0 : decode cX4_word 0 = .ok (.aload_n 0, 1) := dk_42 (dk_at dksX4_word_0 0 rfl rfl)
theorem dX4_word_1 : decode cX4_word 1 = .ok (.getfield 69, 3) := dk_180 0 69 (dk_at dksX4_word_0 1 rfl rfl)
theorem dX4_word_4 : decode cX4_word 4 = .ok (.ifCond .eq 15, 3) := dk_153 0 15 (dk_at dksX4_word_0 4 rfl rfl)
theorem dX4_word_7 : decode cX4_word 7 = .ok (.aload_n 0, 1) := dk_42 (dk_at dksX4_word_0 7 rfl rfl)
theorem dX4_word_8 : decode cX4_word 8 = .ok (.getfield 17, 3) := dk_180 0 17 (dk_at dksX4_word_0 8 rfl rfl)
theorem dX4_word_11 : decode cX4_word 11 = .ok (.invokevirtual 105, 3) := dk_182 0 105 (dk_at dksX4_word_0 11 rfl rfl)
theorem dX4_word_14 : decode cX4_word 14 = .ok (.bipush 8, 2) := dk_16 8 (dk_at dksX4_word_0 14 rfl rfl)
theorem dX4_word_16 : decode cX4_word 16 = .ok (.if_icmp .le 11, 3) := dk_164 0 11 (dk_at dksX4_word_0 16 rfl rfl)
theorem dX4_word_19 : decode cX4_word 19 = .ok (.new 108, 3) := dk_187 0 108 (dk_at dksX4_word_0 19 rfl rfl)
theorem dX4_word_22 : decode cX4_word 22 = .ok (.dup, 1) := dk_89 (dk_at dksX4_word_0 22 rfl rfl)
theorem dX4_word_23 : decode cX4_word 23 = .ok (.invokespecial 110, 3) := dk_183 0 110 (dk_at dksX4_word_1 0 rfl rfl)
theorem dX4_word_26 : decode cX4_word 26 = .ok (.athrow, 1) := dk_191 (dk_at dksX4_word_1 3 rfl rfl)
theorem dX4_word_27 : decode cX4_word 27 = .ok (.aload_n 0, 1) := dk_42 (dk_at dksX4_word_1 4 rfl rfl)
theorem dX4_word_28 : decode cX4_word 28 = .ok (.getfield 17, 3) := dk_180 0 17 (dk_at dksX4_word_1 5 rfl rfl)
theorem dX4_word_31 : decode cX4_word 31 = .ok (.areturn, 1) := dk_176 (dk_at dksX4_word_1 8 rfl rfl)
abbrev cX4_note : ByteArray := prog_12_method_13_code
def yX4_note : MethodName := ⟨RX4, "note", "()V"⟩
def dkwX4_note_9 : List UInt8 := [182, 0, 239, 183, 0, 242, 182, 0, 245, 87, 177]
abbrev dktX4_note_9 : List UInt8 := dkwX4_note_9 ++ []
def dkwX4_note_8 : List UInt8 := [180, 0, 25, 180, 0, 165, 187, 0, 237, 89, 28, 29, 21, 4, 21, 6, 21, 6, 21, 7, 96, 4, 100, 42]
abbrev dktX4_note_8 : List UInt8 := dkwX4_note_8 ++ dktX4_note_9
def dkwX4_note_7 : List UInt8 := [54, 6, 42, 18, 235, 182, 0, 119, 42, 4, 25, 5, 182, 0, 185, 21, 6, 100, 182, 0, 174, 54, 7, 42]
abbrev dktX4_note_7 : List UInt8 := dkwX4_note_7 ++ dktX4_note_8
def dkwX4_note_6 : List UInt8 := [182, 0, 95, 25, 8, 182, 0, 140, 54, 7, 42, 182, 0, 29, 167, 0, 32, 42, 25, 5, 182, 0, 232]
abbrev dktX4_note_6 : List UInt8 := dkwX4_note_6 ++ dktX4_note_7
def dkwX4_note_5 : List UInt8 := [25, 5, 25, 8, 182, 0, 228, 54, 6, 42, 21, 6, 2, 159, 0, 7, 4, 167, 0, 4, 3, 8]
abbrev dktX4_note_5 : List UInt8 := dkwX4_note_5 ++ dktX4_note_6
def dkwX4_note_4 : List UInt8 := [18, 220, 182, 0, 99, 153, 0, 58, 42, 182, 0, 29, 42, 18, 222, 182, 0, 119, 42, 182, 0, 224, 58, 8]
abbrev dktX4_note_4 : List UInt8 := dkwX4_note_4 ++ dktX4_note_5
def dkwX4_note_3 : List UInt8 := [180, 0, 134, 21, 4, 182, 0, 217, 192, 0, 178, 58, 5, 2, 54, 6, 3, 54, 7, 42, 180, 0, 17]
abbrev dktX4_note_3 : List UInt8 := dkwX4_note_3 ++ dktX4_note_4
def dkwX4_note_2 : List UInt8 := [182, 0, 214, 62, 42, 180, 0, 25, 180, 0, 134, 182, 0, 140, 4, 100, 54, 4, 42, 180, 0, 25]
abbrev dktX4_note_2 : List UInt8 := dkwX4_note_2 ++ dktX4_note_3
def dkwX4_note_1 : List UInt8 := [180, 0, 25, 180, 0, 153, 43, 182, 0, 205, 192, 0, 209, 182, 0, 211, 61, 42, 182, 0, 29, 42]
abbrev dktX4_note_1 : List UInt8 := dkwX4_note_1 ++ dktX4_note_2
def dkwX4_note_0 : List UInt8 := [42, 182, 0, 150, 76, 42, 42, 180, 0, 25, 180, 0, 153, 43, 182, 0, 157, 6, 182, 0, 95, 42]
abbrev dktX4_note_0 : List UInt8 := dkwX4_note_0 ++ dktX4_note_1
theorem dksX4_note_0 : cX4_note.data.toList.drop 0 = dktX4_note_0 := by decide +kernel
theorem dksX4_note_1 : cX4_note.data.toList.drop 22 = dktX4_note_1 := dk_seg dksX4_note_0 22 rfl rfl
theorem dksX4_note_2 : cX4_note.data.toList.drop 44 = dktX4_note_2 := dk_seg dksX4_note_1 22 rfl rfl
theorem dksX4_note_3 : cX4_note.data.toList.drop 66 = dktX4_note_3 := dk_seg dksX4_note_2 22 rfl rfl
theorem dksX4_note_4 : cX4_note.data.toList.drop 89 = dktX4_note_4 := dk_seg dksX4_note_3 23 rfl rfl
theorem dksX4_note_5 : cX4_note.data.toList.drop 113 = dktX4_note_5 := dk_seg dksX4_note_4 24 rfl rfl
theorem dksX4_note_6 : cX4_note.data.toList.drop 135 = dktX4_note_6 := dk_seg dksX4_note_5 22 rfl rfl
theorem dksX4_note_7 : cX4_note.data.toList.drop 158 = dktX4_note_7 := dk_seg dksX4_note_6 23 rfl rfl
theorem dksX4_note_8 : cX4_note.data.toList.drop 182 = dktX4_note_8 := dk_seg dksX4_note_7 24 rfl rfl
theorem dksX4_note_9 : cX4_note.data.toList.drop 206 = dktX4_note_9 := dk_seg dksX4_note_8 24 rfl rfl
theorem dX4_note_0 : decode cX4_note 0 = .ok (.aload_n 0, 1) := dk_42 (dk_at dksX4_note_0 0 rfl rfl)
theorem dX4_note_1 : decode cX4_note 1 = .ok (.invokevirtual 150, 3) := dk_182 0 150 (dk_at dksX4_note_0 1 rfl rfl)
theorem dX4_note_4 : decode cX4_note 4 = .ok (.astore_n 1, 1) := dk_76 (dk_at dksX4_note_0 4 rfl rfl)
theorem dX4_note_5 : decode cX4_note 5 = .ok (.aload_n 0, 1) := dk_42 (dk_at dksX4_note_0 5 rfl rfl)
theorem dX4_note_6 : decode cX4_note 6 = .ok (.aload_n 0, 1) := dk_42 (dk_at dksX4_note_0 6 rfl rfl)
theorem dX4_note_7 : decode cX4_note 7 = .ok (.getfield 25, 3) := dk_180 0 25 (dk_at dksX4_note_0 7 rfl rfl)
theorem dX4_note_10 : decode cX4_note 10 = .ok (.getfield 153, 3) := dk_180 0 153 (dk_at dksX4_note_0 10 rfl rfl)
theorem dX4_note_13 : decode cX4_note 13 = .ok (.aload_n 1, 1) := dk_43 (dk_at dksX4_note_0 13 rfl rfl)
theorem dX4_note_14 : decode cX4_note 14 = .ok (.invokevirtual 157, 3) := dk_182 0 157 (dk_at dksX4_note_0 14 rfl rfl)
theorem dX4_note_17 : decode cX4_note 17 = .ok (.iconst 3, 1) := dk_6 (dk_at dksX4_note_0 17 rfl rfl)
theorem dX4_note_18 : decode cX4_note 18 = .ok (.invokevirtual 95, 3) := dk_182 0 95 (dk_at dksX4_note_0 18 rfl rfl)
theorem dX4_note_21 : decode cX4_note 21 = .ok (.aload_n 0, 1) := dk_42 (dk_at dksX4_note_0 21 rfl rfl)
theorem dX4_note_22 : decode cX4_note 22 = .ok (.getfield 25, 3) := dk_180 0 25 (dk_at dksX4_note_1 0 rfl rfl)
theorem dX4_note_25 : decode cX4_note 25 = .ok (.getfield 153, 3) := dk_180 0 153 (dk_at dksX4_note_1 3 rfl rfl)
theorem dX4_note_28 : decode cX4_note 28 = .ok (.aload_n 1, 1) := dk_43 (dk_at dksX4_note_1 6 rfl rfl)
theorem dX4_note_29 : decode cX4_note 29 = .ok (.invokevirtual 205, 3) := dk_182 0 205 (dk_at dksX4_note_1 7 rfl rfl)
theorem dX4_note_32 : decode cX4_note 32 = .ok (.checkcast 209, 3) := dk_192 0 209 (dk_at dksX4_note_1 10 rfl rfl)
theorem dX4_note_35 : decode cX4_note 35 = .ok (.invokevirtual 211, 3) := dk_182 0 211 (dk_at dksX4_note_1 13 rfl rfl)
theorem dX4_note_38 : decode cX4_note 38 = .ok (.istore_n 2, 1) := dk_61 (dk_at dksX4_note_1 16 rfl rfl)
theorem dX4_note_39 : decode cX4_note 39 = .ok (.aload_n 0, 1) := dk_42 (dk_at dksX4_note_1 17 rfl rfl)
theorem dX4_note_40 : decode cX4_note 40 = .ok (.invokevirtual 29, 3) := dk_182 0 29 (dk_at dksX4_note_1 18 rfl rfl)
theorem dX4_note_43 : decode cX4_note 43 = .ok (.aload_n 0, 1) := dk_42 (dk_at dksX4_note_1 21 rfl rfl)
theorem dX4_note_44 : decode cX4_note 44 = .ok (.invokevirtual 214, 3) := dk_182 0 214 (dk_at dksX4_note_2 0 rfl rfl)
theorem dX4_note_47 : decode cX4_note 47 = .ok (.istore_n 3, 1) := dk_62 (dk_at dksX4_note_2 3 rfl rfl)
theorem dX4_note_48 : decode cX4_note 48 = .ok (.aload_n 0, 1) := dk_42 (dk_at dksX4_note_2 4 rfl rfl)
theorem dX4_note_49 : decode cX4_note 49 = .ok (.getfield 25, 3) := dk_180 0 25 (dk_at dksX4_note_2 5 rfl rfl)
theorem dX4_note_52 : decode cX4_note 52 = .ok (.getfield 134, 3) := dk_180 0 134 (dk_at dksX4_note_2 8 rfl rfl)
theorem dX4_note_55 : decode cX4_note 55 = .ok (.invokevirtual 140, 3) := dk_182 0 140 (dk_at dksX4_note_2 11 rfl rfl)
theorem dX4_note_58 : decode cX4_note 58 = .ok (.iconst 1, 1) := dk_4 (dk_at dksX4_note_2 14 rfl rfl)
theorem dX4_note_59 : decode cX4_note 59 = .ok (.isub, 1) := dk_100 (dk_at dksX4_note_2 15 rfl rfl)
theorem dX4_note_60 : decode cX4_note 60 = .ok (.istore 4, 2) := dk_54 4 (dk_at dksX4_note_2 16 rfl rfl)
theorem dX4_note_62 : decode cX4_note 62 = .ok (.aload_n 0, 1) := dk_42 (dk_at dksX4_note_2 18 rfl rfl)
theorem dX4_note_63 : decode cX4_note 63 = .ok (.getfield 25, 3) := dk_180 0 25 (dk_at dksX4_note_2 19 rfl rfl)
theorem dX4_note_66 : decode cX4_note 66 = .ok (.getfield 134, 3) := dk_180 0 134 (dk_at dksX4_note_3 0 rfl rfl)
theorem dX4_note_69 : decode cX4_note 69 = .ok (.iload 4, 2) := dk_21 4 (dk_at dksX4_note_3 3 rfl rfl)
theorem dX4_note_71 : decode cX4_note 71 = .ok (.invokevirtual 217, 3) := dk_182 0 217 (dk_at dksX4_note_3 5 rfl rfl)
theorem dX4_note_74 : decode cX4_note 74 = .ok (.checkcast 178, 3) := dk_192 0 178 (dk_at dksX4_note_3 8 rfl rfl)
theorem dX4_note_77 : decode cX4_note 77 = .ok (.astore 5, 2) := dk_58 5 (dk_at dksX4_note_3 11 rfl rfl)
theorem dX4_note_79 : decode cX4_note 79 = .ok (.iconst (-1), 1) := dk_2 (dk_at dksX4_note_3 13 rfl rfl)
theorem dX4_note_80 : decode cX4_note 80 = .ok (.istore 6, 2) := dk_54 6 (dk_at dksX4_note_3 14 rfl rfl)
theorem dX4_note_82 : decode cX4_note 82 = .ok (.iconst 0, 1) := dk_3 (dk_at dksX4_note_3 16 rfl rfl)
theorem dX4_note_83 : decode cX4_note 83 = .ok (.istore 7, 2) := dk_54 7 (dk_at dksX4_note_3 17 rfl rfl)
theorem dX4_note_85 : decode cX4_note 85 = .ok (.aload_n 0, 1) := dk_42 (dk_at dksX4_note_3 19 rfl rfl)
theorem dX4_note_86 : decode cX4_note 86 = .ok (.getfield 17, 3) := dk_180 0 17 (dk_at dksX4_note_3 20 rfl rfl)
theorem dX4_note_89 : decode cX4_note 89 = .ok (.ldc 220, 2) := dk_18 220 (dk_at dksX4_note_4 0 rfl rfl)
theorem dX4_note_91 : decode cX4_note 91 = .ok (.invokevirtual 99, 3) := dk_182 0 99 (dk_at dksX4_note_4 2 rfl rfl)
theorem dX4_note_94 : decode cX4_note 94 = .ok (.ifCond .eq 58, 3) := dk_153 0 58 (dk_at dksX4_note_4 5 rfl rfl)
theorem dX4_note_97 : decode cX4_note 97 = .ok (.aload_n 0, 1) := dk_42 (dk_at dksX4_note_4 8 rfl rfl)
theorem dX4_note_98 : decode cX4_note 98 = .ok (.invokevirtual 29, 3) := dk_182 0 29 (dk_at dksX4_note_4 9 rfl rfl)
theorem dX4_note_101 : decode cX4_note 101 = .ok (.aload_n 0, 1) := dk_42 (dk_at dksX4_note_4 12 rfl rfl)
theorem dX4_note_102 : decode cX4_note 102 = .ok (.ldc 222, 2) := dk_18 222 (dk_at dksX4_note_4 13 rfl rfl)
theorem dX4_note_104 : decode cX4_note 104 = .ok (.invokevirtual 119, 3) := dk_182 0 119 (dk_at dksX4_note_4 15 rfl rfl)
theorem dX4_note_107 : decode cX4_note 107 = .ok (.aload_n 0, 1) := dk_42 (dk_at dksX4_note_4 18 rfl rfl)
theorem dX4_note_108 : decode cX4_note 108 = .ok (.invokevirtual 224, 3) := dk_182 0 224 (dk_at dksX4_note_4 19 rfl rfl)
theorem dX4_note_111 : decode cX4_note 111 = .ok (.astore 8, 2) := dk_58 8 (dk_at dksX4_note_4 22 rfl rfl)
theorem dX4_note_113 : decode cX4_note 113 = .ok (.aload 5, 2) := dk_25 5 (dk_at dksX4_note_5 0 rfl rfl)
theorem dX4_note_115 : decode cX4_note 115 = .ok (.aload 8, 2) := dk_25 8 (dk_at dksX4_note_5 2 rfl rfl)
theorem dX4_note_117 : decode cX4_note 117 = .ok (.invokevirtual 228, 3) := dk_182 0 228 (dk_at dksX4_note_5 4 rfl rfl)
theorem dX4_note_120 : decode cX4_note 120 = .ok (.istore 6, 2) := dk_54 6 (dk_at dksX4_note_5 7 rfl rfl)
theorem dX4_note_122 : decode cX4_note 122 = .ok (.aload_n 0, 1) := dk_42 (dk_at dksX4_note_5 9 rfl rfl)
theorem dX4_note_123 : decode cX4_note 123 = .ok (.iload 6, 2) := dk_21 6 (dk_at dksX4_note_5 10 rfl rfl)
theorem dX4_note_125 : decode cX4_note 125 = .ok (.iconst (-1), 1) := dk_2 (dk_at dksX4_note_5 12 rfl rfl)
theorem dX4_note_126 : decode cX4_note 126 = .ok (.if_icmp .eq 7, 3) := dk_159 0 7 (dk_at dksX4_note_5 13 rfl rfl)
theorem dX4_note_129 : decode cX4_note 129 = .ok (.iconst 1, 1) := dk_4 (dk_at dksX4_note_5 16 rfl rfl)
theorem dX4_note_130 : decode cX4_note 130 = .ok (.goto 4, 3) := dk_167 0 4 (dk_at dksX4_note_5 17 rfl rfl)
theorem dX4_note_133 : decode cX4_note 133 = .ok (.iconst 0, 1) := dk_3 (dk_at dksX4_note_5 20 rfl rfl)
theorem dX4_note_134 : decode cX4_note 134 = .ok (.iconst 5, 1) := dk_8 (dk_at dksX4_note_5 21 rfl rfl)
theorem dX4_note_135 : decode cX4_note 135 = .ok (.invokevirtual 95, 3) := dk_182 0 95 (dk_at dksX4_note_6 0 rfl rfl)
theorem dX4_note_138 : decode cX4_note 138 = .ok (.aload 8, 2) := dk_25 8 (dk_at dksX4_note_6 3 rfl rfl)
theorem dX4_note_140 : decode cX4_note 140 = .ok (.invokevirtual 140, 3) := dk_182 0 140 (dk_at dksX4_note_6 5 rfl rfl)
theorem dX4_note_143 : decode cX4_note 143 = .ok (.istore 7, 2) := dk_54 7 (dk_at dksX4_note_6 8 rfl rfl)
theorem dX4_note_145 : decode cX4_note 145 = .ok (.aload_n 0, 1) := dk_42 (dk_at dksX4_note_6 10 rfl rfl)
theorem dX4_note_146 : decode cX4_note 146 = .ok (.invokevirtual 29, 3) := dk_182 0 29 (dk_at dksX4_note_6 11 rfl rfl)
theorem dX4_note_149 : decode cX4_note 149 = .ok (.goto 32, 3) := dk_167 0 32 (dk_at dksX4_note_6 14 rfl rfl)
theorem dX4_note_152 : decode cX4_note 152 = .ok (.aload_n 0, 1) := dk_42 (dk_at dksX4_note_6 17 rfl rfl)
theorem dX4_note_153 : decode cX4_note 153 = .ok (.aload 5, 2) := dk_25 5 (dk_at dksX4_note_6 18 rfl rfl)
theorem dX4_note_155 : decode cX4_note 155 = .ok (.invokevirtual 232, 3) := dk_182 0 232 (dk_at dksX4_note_6 20 rfl rfl)
theorem dX4_note_158 : decode cX4_note 158 = .ok (.istore 6, 2) := dk_54 6 (dk_at dksX4_note_7 0 rfl rfl)
theorem dX4_note_160 : decode cX4_note 160 = .ok (.aload_n 0, 1) := dk_42 (dk_at dksX4_note_7 2 rfl rfl)
theorem dX4_note_161 : decode cX4_note 161 = .ok (.ldc 235, 2) := dk_18 235 (dk_at dksX4_note_7 3 rfl rfl)
theorem dX4_note_163 : decode cX4_note 163 = .ok (.invokevirtual 119, 3) := dk_182 0 119 (dk_at dksX4_note_7 5 rfl rfl)
theorem dX4_note_166 : decode cX4_note 166 = .ok (.aload_n 0, 1) := dk_42 (dk_at dksX4_note_7 8 rfl rfl)
theorem dX4_note_167 : decode cX4_note 167 = .ok (.iconst 1, 1) := dk_4 (dk_at dksX4_note_7 9 rfl rfl)
theorem dX4_note_168 : decode cX4_note 168 = .ok (.aload 5, 2) := dk_25 5 (dk_at dksX4_note_7 10 rfl rfl)
theorem dX4_note_170 : decode cX4_note 170 = .ok (.invokevirtual 185, 3) := dk_182 0 185 (dk_at dksX4_note_7 12 rfl rfl)
theorem dX4_note_173 : decode cX4_note 173 = .ok (.iload 6, 2) := dk_21 6 (dk_at dksX4_note_7 15 rfl rfl)
theorem dX4_note_175 : decode cX4_note 175 = .ok (.isub, 1) := dk_100 (dk_at dksX4_note_7 17 rfl rfl)
theorem dX4_note_176 : decode cX4_note 176 = .ok (.invokevirtual 174, 3) := dk_182 0 174 (dk_at dksX4_note_7 18 rfl rfl)
theorem dX4_note_179 : decode cX4_note 179 = .ok (.istore 7, 2) := dk_54 7 (dk_at dksX4_note_7 21 rfl rfl)
theorem dX4_note_181 : decode cX4_note 181 = .ok (.aload_n 0, 1) := dk_42 (dk_at dksX4_note_7 23 rfl rfl)
theorem dX4_note_182 : decode cX4_note 182 = .ok (.getfield 25, 3) := dk_180 0 25 (dk_at dksX4_note_8 0 rfl rfl)
theorem dX4_note_185 : decode cX4_note 185 = .ok (.getfield 165, 3) := dk_180 0 165 (dk_at dksX4_note_8 3 rfl rfl)
theorem dX4_note_188 : decode cX4_note 188 = .ok (.new 237, 3) := dk_187 0 237 (dk_at dksX4_note_8 6 rfl rfl)
theorem dX4_note_191 : decode cX4_note 191 = .ok (.dup, 1) := dk_89 (dk_at dksX4_note_8 9 rfl rfl)
theorem dX4_note_192 : decode cX4_note 192 = .ok (.iload_n 2, 1) := dk_28 (dk_at dksX4_note_8 10 rfl rfl)
theorem dX4_note_193 : decode cX4_note 193 = .ok (.iload_n 3, 1) := dk_29 (dk_at dksX4_note_8 11 rfl rfl)
theorem dX4_note_194 : decode cX4_note 194 = .ok (.iload 4, 2) := dk_21 4 (dk_at dksX4_note_8 12 rfl rfl)
theorem dX4_note_196 : decode cX4_note 196 = .ok (.iload 6, 2) := dk_21 6 (dk_at dksX4_note_8 14 rfl rfl)
theorem dX4_note_198 : decode cX4_note 198 = .ok (.iload 6, 2) := dk_21 6 (dk_at dksX4_note_8 16 rfl rfl)
theorem dX4_note_200 : decode cX4_note 200 = .ok (.iload 7, 2) := dk_21 7 (dk_at dksX4_note_8 18 rfl rfl)
theorem dX4_note_202 : decode cX4_note 202 = .ok (.iadd, 1) := dk_96 (dk_at dksX4_note_8 20 rfl rfl)
theorem dX4_note_203 : decode cX4_note 203 = .ok (.iconst 1, 1) := dk_4 (dk_at dksX4_note_8 21 rfl rfl)
theorem dX4_note_204 : decode cX4_note 204 = .ok (.isub, 1) := dk_100 (dk_at dksX4_note_8 22 rfl rfl)
theorem dX4_note_205 : decode cX4_note 205 = .ok (.aload_n 0, 1) := dk_42 (dk_at dksX4_note_8 23 rfl rfl)
theorem dX4_note_206 : decode cX4_note 206 = .ok (.invokevirtual 239, 3) := dk_182 0 239 (dk_at dksX4_note_9 0 rfl rfl)
theorem dX4_note_209 : decode cX4_note 209 = .ok (.invokespecial 242, 3) := dk_183 0 242 (dk_at dksX4_note_9 3 rfl rfl)
theorem dX4_note_212 : decode cX4_note 212 = .ok (.invokevirtual 245, 3) := dk_182 0 245 (dk_at dksX4_note_9 6 rfl rfl)
theorem dX4_note_215 : decode cX4_note 215 = .ok (.pop, 1) := dk_87 (dk_at dksX4_note_9 9 rfl rfl)
theorem dX4_note_216 : decode cX4_note 216 = .ok (.return_, 1) := dk_177 (dk_at dksX4_note_9 10 rfl rfl)
abbrev cX4_kind : ByteArray := prog_12_method_12_code
def yX4_kind : MethodName := ⟨RX4, "kind", "()I"⟩
def dkwX4_kind_2 : List UInt8 := [167, 255, 218, 187, 0, 90, 89, 4, 42, 180, 0, 47, 1, 183, 0, 92, 191]
abbrev dktX4_kind_2 : List UInt8 := dkwX4_kind_2 ++ []
def dkwX4_kind_1 : List UInt8 := [42, 180, 0, 17, 182, 0, 99, 153, 0, 13, 42, 182, 0, 29, 25, 4, 182, 0, 202, 172, 132, 3, 1]
abbrev dktX4_kind_1 : List UInt8 := dkwX4_kind_1 ++ dktX4_kind_2
def dkwX4_kind_0 : List UInt8 := [184, 0, 194, 76, 43, 190, 61, 3, 62, 29, 28, 162, 0, 39, 43, 29, 50, 58, 4, 25, 4, 180, 0, 200]
abbrev dktX4_kind_0 : List UInt8 := dkwX4_kind_0 ++ dktX4_kind_1
theorem dksX4_kind_0 : cX4_kind.data.toList.drop 0 = dktX4_kind_0 := by decide +kernel
theorem dksX4_kind_1 : cX4_kind.data.toList.drop 24 = dktX4_kind_1 := dk_seg dksX4_kind_0 24 rfl rfl
theorem dksX4_kind_2 : cX4_kind.data.toList.drop 47 = dktX4_kind_2 := dk_seg dksX4_kind_1 23 rfl rfl
theorem dX4_kind_0 : decode cX4_kind 0 = .ok (.invokestatic 194, 3) := dk_184 0 194 (dk_at dksX4_kind_0 0 rfl rfl)
theorem dX4_kind_3 : decode cX4_kind 3 = .ok (.astore_n 1, 1) := dk_76 (dk_at dksX4_kind_0 3 rfl rfl)
theorem dX4_kind_4 : decode cX4_kind 4 = .ok (.aload_n 1, 1) := dk_43 (dk_at dksX4_kind_0 4 rfl rfl)
theorem dX4_kind_5 : decode cX4_kind 5 = .ok (.arraylength, 1) := dk_190 (dk_at dksX4_kind_0 5 rfl rfl)
theorem dX4_kind_6 : decode cX4_kind 6 = .ok (.istore_n 2, 1) := dk_61 (dk_at dksX4_kind_0 6 rfl rfl)
theorem dX4_kind_7 : decode cX4_kind 7 = .ok (.iconst 0, 1) := dk_3 (dk_at dksX4_kind_0 7 rfl rfl)
theorem dX4_kind_8 : decode cX4_kind 8 = .ok (.istore_n 3, 1) := dk_62 (dk_at dksX4_kind_0 8 rfl rfl)
theorem dX4_kind_9 : decode cX4_kind 9 = .ok (.iload_n 3, 1) := dk_29 (dk_at dksX4_kind_0 9 rfl rfl)
theorem dX4_kind_10 : decode cX4_kind 10 = .ok (.iload_n 2, 1) := dk_28 (dk_at dksX4_kind_0 10 rfl rfl)
theorem dX4_kind_11 : decode cX4_kind 11 = .ok (.if_icmp .ge 39, 3) := dk_162 0 39 (dk_at dksX4_kind_0 11 rfl rfl)
theorem dX4_kind_14 : decode cX4_kind 14 = .ok (.aload_n 1, 1) := dk_43 (dk_at dksX4_kind_0 14 rfl rfl)
theorem dX4_kind_15 : decode cX4_kind 15 = .ok (.iload_n 3, 1) := dk_29 (dk_at dksX4_kind_0 15 rfl rfl)
theorem dX4_kind_16 : decode cX4_kind 16 = .ok (.aaload, 1) := dk_50 (dk_at dksX4_kind_0 16 rfl rfl)
theorem dX4_kind_17 : decode cX4_kind 17 = .ok (.astore 4, 2) := dk_58 4 (dk_at dksX4_kind_0 17 rfl rfl)
theorem dX4_kind_19 : decode cX4_kind 19 = .ok (.aload 4, 2) := dk_25 4 (dk_at dksX4_kind_0 19 rfl rfl)
theorem dX4_kind_21 : decode cX4_kind 21 = .ok (.getfield 200, 3) := dk_180 0 200 (dk_at dksX4_kind_0 21 rfl rfl)
theorem dX4_kind_24 : decode cX4_kind 24 = .ok (.aload_n 0, 1) := dk_42 (dk_at dksX4_kind_1 0 rfl rfl)
theorem dX4_kind_25 : decode cX4_kind 25 = .ok (.getfield 17, 3) := dk_180 0 17 (dk_at dksX4_kind_1 1 rfl rfl)
theorem dX4_kind_28 : decode cX4_kind 28 = .ok (.invokevirtual 99, 3) := dk_182 0 99 (dk_at dksX4_kind_1 4 rfl rfl)
theorem dX4_kind_31 : decode cX4_kind 31 = .ok (.ifCond .eq 13, 3) := dk_153 0 13 (dk_at dksX4_kind_1 7 rfl rfl)
theorem dX4_kind_34 : decode cX4_kind 34 = .ok (.aload_n 0, 1) := dk_42 (dk_at dksX4_kind_1 10 rfl rfl)
theorem dX4_kind_35 : decode cX4_kind 35 = .ok (.invokevirtual 29, 3) := dk_182 0 29 (dk_at dksX4_kind_1 11 rfl rfl)
theorem dX4_kind_38 : decode cX4_kind 38 = .ok (.aload 4, 2) := dk_25 4 (dk_at dksX4_kind_1 14 rfl rfl)
theorem dX4_kind_40 : decode cX4_kind 40 = .ok (.invokevirtual 202, 3) := dk_182 0 202 (dk_at dksX4_kind_1 16 rfl rfl)
theorem dX4_kind_43 : decode cX4_kind 43 = .ok (.ireturn, 1) := dk_172 (dk_at dksX4_kind_1 19 rfl rfl)
theorem dX4_kind_44 : decode cX4_kind 44 = .ok (.iinc 3 1, 3) := dk_132 3 1 (dk_at dksX4_kind_1 20 rfl rfl)
theorem dX4_kind_47 : decode cX4_kind 47 = .ok (.goto (-38), 3) := dk_167 255 218 (dk_at dksX4_kind_2 0 rfl rfl)
theorem dX4_kind_50 : decode cX4_kind 50 = .ok (.new 90, 3) := dk_187 0 90 (dk_at dksX4_kind_2 3 rfl rfl)
theorem dX4_kind_53 : decode cX4_kind 53 = .ok (.dup, 1) := dk_89 (dk_at dksX4_kind_2 6 rfl rfl)
theorem dX4_kind_54 : decode cX4_kind 54 = .ok (.iconst 1, 1) := dk_4 (dk_at dksX4_kind_2 7 rfl rfl)
theorem dX4_kind_55 : decode cX4_kind 55 = .ok (.aload_n 0, 1) := dk_42 (dk_at dksX4_kind_2 8 rfl rfl)
theorem dX4_kind_56 : decode cX4_kind 56 = .ok (.getfield 47, 3) := dk_180 0 47 (dk_at dksX4_kind_2 9 rfl rfl)
theorem dX4_kind_59 : decode cX4_kind 59 = .ok (.aconst_null, 1) := dk_1 (dk_at dksX4_kind_2 12 rfl rfl)
theorem dX4_kind_60 : decode cX4_kind 60 = .ok (.invokespecial 92, 3) := dk_183 0 92 (dk_at dksX4_kind_2 13 rfl rfl)
theorem dX4_kind_63 : decode cX4_kind 63 = .ok (.athrow, 1) := dk_191 (dk_at dksX4_kind_2 16 rfl rfl)
abbrev cX4_expect : ByteArray := prog_12_method_6_code
def yX4_expect : MethodName := ⟨RX4, "expect", "(Ljava/lang/String;)V"⟩
def dkwX4_expect_0 : List UInt8 := [42, 42, 180, 0, 17, 43, 182, 0, 99, 4, 182, 0, 95, 42, 182, 0, 29, 177]
abbrev dktX4_expect_0 : List UInt8 := dkwX4_expect_0 ++ []
theorem dksX4_expect_0 : cX4_expect.data.toList.drop 0 = dktX4_expect_0 := by decide +kernel
theorem dX4_expect_0 : decode cX4_expect 0 = .ok (.aload_n 0, 1) := dk_42 (dk_at dksX4_expect_0 0 rfl rfl)
theorem dX4_expect_1 : decode cX4_expect 1 = .ok (.aload_n 0, 1) := dk_42 (dk_at dksX4_expect_0 1 rfl rfl)
theorem dX4_expect_2 : decode cX4_expect 2 = .ok (.getfield 17, 3) := dk_180 0 17 (dk_at dksX4_expect_0 2 rfl rfl)
theorem dX4_expect_5 : decode cX4_expect 5 = .ok (.aload_n 1, 1) := dk_43 (dk_at dksX4_expect_0 5 rfl rfl)
theorem dX4_expect_6 : decode cX4_expect 6 = .ok (.invokevirtual 99, 3) := dk_182 0 99 (dk_at dksX4_expect_0 6 rfl rfl)
theorem dX4_expect_9 : decode cX4_expect 9 = .ok (.iconst 1, 1) := dk_4 (dk_at dksX4_expect_0 9 rfl rfl)
theorem dX4_expect_10 : decode cX4_expect 10 = .ok (.invokevirtual 95, 3) := dk_182 0 95 (dk_at dksX4_expect_0 10 rfl rfl)
theorem dX4_expect_13 : decode cX4_expect 13 = .ok (.aload_n 0, 1) := dk_42 (dk_at dksX4_expect_0 13 rfl rfl)
theorem dX4_expect_14 : decode cX4_expect 14 = .ok (.invokevirtual 29, 3) := dk_182 0 29 (dk_at dksX4_expect_0 14 rfl rfl)
theorem dX4_expect_17 : decode cX4_expect 17 = .ok (.return_, 1) := dk_177 (dk_at dksX4_expect_0 17 rfl rfl)
abbrev cX4_quoted : ByteArray := prog_12_method_14_code
def yX4_quoted : MethodName := ⟨RX4, "quoted", "()Ljava/util/ArrayList;"⟩
def dkwX4_quoted_1 : List UInt8 := [180, 0, 69, 154, 255, 239, 42, 42, 180, 0, 17, 18, 222, 182, 0, 99, 4, 182, 0, 95, 43, 176]
abbrev dktX4_quoted_1 : List UInt8 := dkwX4_quoted_1 ++ []
def dkwX4_quoted_0 : List UInt8 := [187, 0, 141, 89, 7, 183, 0, 247, 76, 43, 42, 182, 0, 150, 182, 0, 245, 87, 42, 182, 0, 29, 42]
abbrev dktX4_quoted_0 : List UInt8 := dkwX4_quoted_0 ++ dktX4_quoted_1
theorem dksX4_quoted_0 : cX4_quoted.data.toList.drop 0 = dktX4_quoted_0 := by decide +kernel
theorem dksX4_quoted_1 : cX4_quoted.data.toList.drop 23 = dktX4_quoted_1 := dk_seg dksX4_quoted_0 23 rfl rfl
theorem dX4_quoted_0 : decode cX4_quoted 0 = .ok (.new 141, 3) := dk_187 0 141 (dk_at dksX4_quoted_0 0 rfl rfl)
theorem dX4_quoted_3 : decode cX4_quoted 3 = .ok (.dup, 1) := dk_89 (dk_at dksX4_quoted_0 3 rfl rfl)
theorem dX4_quoted_4 : decode cX4_quoted 4 = .ok (.iconst 4, 1) := dk_7 (dk_at dksX4_quoted_0 4 rfl rfl)
theorem dX4_quoted_5 : decode cX4_quoted 5 = .ok (.invokespecial 247, 3) := dk_183 0 247 (dk_at dksX4_quoted_0 5 rfl rfl)
theorem dX4_quoted_8 : decode cX4_quoted 8 = .ok (.astore_n 1, 1) := dk_76 (dk_at dksX4_quoted_0 8 rfl rfl)
theorem dX4_quoted_9 : decode cX4_quoted 9 = .ok (.aload_n 1, 1) := dk_43 (dk_at dksX4_quoted_0 9 rfl rfl)
theorem dX4_quoted_10 : decode cX4_quoted 10 = .ok (.aload_n 0, 1) := dk_42 (dk_at dksX4_quoted_0 10 rfl rfl)
theorem dX4_quoted_11 : decode cX4_quoted 11 = .ok (.invokevirtual 150, 3) := dk_182 0 150 (dk_at dksX4_quoted_0 11 rfl rfl)
theorem dX4_quoted_14 : decode cX4_quoted 14 = .ok (.invokevirtual 245, 3) := dk_182 0 245 (dk_at dksX4_quoted_0 14 rfl rfl)
theorem dX4_quoted_17 : decode cX4_quoted 17 = .ok (.pop, 1) := dk_87 (dk_at dksX4_quoted_0 17 rfl rfl)
theorem dX4_quoted_18 : decode cX4_quoted 18 = .ok (.aload_n 0, 1) := dk_42 (dk_at dksX4_quoted_0 18 rfl rfl)
theorem dX4_quoted_19 : decode cX4_quoted 19 = .ok (.invokevirtual 29, 3) := dk_182 0 29 (dk_at dksX4_quoted_0 19 rfl rfl)
theorem dX4_quoted_22 : decode cX4_quoted 22 = .ok (.aload_n 0, 1) := dk_42 (dk_at dksX4_quoted_0 22 rfl rfl)
theorem dX4_quoted_23 : decode cX4_quoted 23 = .ok (.getfield 69, 3) := dk_180 0 69 (dk_at dksX4_quoted_1 0 rfl rfl)
theorem dX4_quoted_26 : decode cX4_quoted 26 = .ok (.ifCond .ne (-17), 3) := dk_154 255 239 (dk_at dksX4_quoted_1 3 rfl rfl)
theorem dX4_quoted_29 : decode cX4_quoted 29 = .ok (.aload_n 0, 1) := dk_42 (dk_at dksX4_quoted_1 6 rfl rfl)
theorem dX4_quoted_30 : decode cX4_quoted 30 = .ok (.aload_n 0, 1) := dk_42 (dk_at dksX4_quoted_1 7 rfl rfl)
theorem dX4_quoted_31 : decode cX4_quoted 31 = .ok (.getfield 17, 3) := dk_180 0 17 (dk_at dksX4_quoted_1 8 rfl rfl)
theorem dX4_quoted_34 : decode cX4_quoted 34 = .ok (.ldc 222, 2) := dk_18 222 (dk_at dksX4_quoted_1 11 rfl rfl)
theorem dX4_quoted_36 : decode cX4_quoted 36 = .ok (.invokevirtual 99, 3) := dk_182 0 99 (dk_at dksX4_quoted_1 13 rfl rfl)
theorem dX4_quoted_39 : decode cX4_quoted 39 = .ok (.iconst 1, 1) := dk_4 (dk_at dksX4_quoted_1 16 rfl rfl)
theorem dX4_quoted_40 : decode cX4_quoted 40 = .ok (.invokevirtual 95, 3) := dk_182 0 95 (dk_at dksX4_quoted_1 17 rfl rfl)
theorem dX4_quoted_43 : decode cX4_quoted 43 = .ok (.aload_n 1, 1) := dk_43 (dk_at dksX4_quoted_1 20 rfl rfl)
theorem dX4_quoted_44 : decode cX4_quoted 44 = .ok (.areturn, 1) := dk_176 (dk_at dksX4_quoted_1 21 rfl rfl)
abbrev cX4_place : ByteArray := prog_12_method_15_code
def yX4_place : MethodName := ⟨RX4, "place", "(LNoteImporter$Edition;)I"⟩
def dkwX4_place_4 : List UInt8 := [42, 21, 4, 2, 159, 0, 7, 4, 167, 0, 4, 3, 5, 182, 0, 95, 42, 182, 0, 29, 21, 4, 172]
abbrev dktX4_place_4 : List UInt8 := dkwX4_place_4 ++ []
def dkwX4_place_3 : List UInt8 := [182, 0, 119, 42, 42, 180, 0, 61, 4, 182, 0, 95, 43, 28, 29, 42, 180, 0, 50, 182, 1, 1, 54, 4]
abbrev dktX4_place_3 : List UInt8 := dkwX4_place_3 ++ dktX4_place_4
def dkwX4_place_2 : List UInt8 := [4, 167, 0, 4, 3, 5, 182, 0, 95, 42, 180, 0, 50, 62, 42, 182, 0, 29, 42, 19, 1, 4]
abbrev dktX4_place_2 : List UInt8 := dkwX4_place_2 ++ dktX4_place_3
def dkwX4_place_1 : List UInt8 := [42, 42, 180, 0, 61, 4, 182, 0, 95, 42, 43, 28, 42, 180, 0, 50, 3, 182, 1, 1, 2, 159, 0, 7]
abbrev dktX4_place_1 : List UInt8 := dkwX4_place_1 ++ dktX4_place_2
def dkwX4_place_0 : List UInt8 := [42, 18, 250, 182, 0, 119, 42, 3, 43, 182, 0, 252, 4, 100, 182, 0, 174, 61, 42, 18, 255, 182, 0, 119]
abbrev dktX4_place_0 : List UInt8 := dkwX4_place_0 ++ dktX4_place_1
theorem dksX4_place_0 : cX4_place.data.toList.drop 0 = dktX4_place_0 := by decide +kernel
theorem dksX4_place_1 : cX4_place.data.toList.drop 24 = dktX4_place_1 := dk_seg dksX4_place_0 24 rfl rfl
theorem dksX4_place_2 : cX4_place.data.toList.drop 48 = dktX4_place_2 := dk_seg dksX4_place_1 24 rfl rfl
theorem dksX4_place_3 : cX4_place.data.toList.drop 70 = dktX4_place_3 := dk_seg dksX4_place_2 22 rfl rfl
theorem dksX4_place_4 : cX4_place.data.toList.drop 94 = dktX4_place_4 := dk_seg dksX4_place_3 24 rfl rfl
theorem dX4_place_0 : decode cX4_place 0 = .ok (.aload_n 0, 1) := dk_42 (dk_at dksX4_place_0 0 rfl rfl)
theorem dX4_place_1 : decode cX4_place 1 = .ok (.ldc 250, 2) := dk_18 250 (dk_at dksX4_place_0 1 rfl rfl)
theorem dX4_place_3 : decode cX4_place 3 = .ok (.invokevirtual 119, 3) := dk_182 0 119 (dk_at dksX4_place_0 3 rfl rfl)
theorem dX4_place_6 : decode cX4_place 6 = .ok (.aload_n 0, 1) := dk_42 (dk_at dksX4_place_0 6 rfl rfl)
theorem dX4_place_7 : decode cX4_place 7 = .ok (.iconst 0, 1) := dk_3 (dk_at dksX4_place_0 7 rfl rfl)
theorem dX4_place_8 : decode cX4_place 8 = .ok (.aload_n 1, 1) := dk_43 (dk_at dksX4_place_0 8 rfl rfl)
theorem dX4_place_9 : decode cX4_place 9 = .ok (.invokevirtual 252, 3) := dk_182 0 252 (dk_at dksX4_place_0 9 rfl rfl)
theorem dX4_place_12 : decode cX4_place 12 = .ok (.iconst 1, 1) := dk_4 (dk_at dksX4_place_0 12 rfl rfl)
theorem dX4_place_13 : decode cX4_place 13 = .ok (.isub, 1) := dk_100 (dk_at dksX4_place_0 13 rfl rfl)
theorem dX4_place_14 : decode cX4_place 14 = .ok (.invokevirtual 174, 3) := dk_182 0 174 (dk_at dksX4_place_0 14 rfl rfl)
theorem dX4_place_17 : decode cX4_place 17 = .ok (.istore_n 2, 1) := dk_61 (dk_at dksX4_place_0 17 rfl rfl)
theorem dX4_place_18 : decode cX4_place 18 = .ok (.aload_n 0, 1) := dk_42 (dk_at dksX4_place_0 18 rfl rfl)
theorem dX4_place_19 : decode cX4_place 19 = .ok (.ldc 255, 2) := dk_18 255 (dk_at dksX4_place_0 19 rfl rfl)
theorem dX4_place_21 : decode cX4_place 21 = .ok (.invokevirtual 119, 3) := dk_182 0 119 (dk_at dksX4_place_0 21 rfl rfl)
theorem dX4_place_24 : decode cX4_place 24 = .ok (.aload_n 0, 1) := dk_42 (dk_at dksX4_place_1 0 rfl rfl)
theorem dX4_place_25 : decode cX4_place 25 = .ok (.aload_n 0, 1) := dk_42 (dk_at dksX4_place_1 1 rfl rfl)
theorem dX4_place_26 : decode cX4_place 26 = .ok (.getfield 61, 3) := dk_180 0 61 (dk_at dksX4_place_1 2 rfl rfl)
theorem dX4_place_29 : decode cX4_place 29 = .ok (.iconst 1, 1) := dk_4 (dk_at dksX4_place_1 5 rfl rfl)
theorem dX4_place_30 : decode cX4_place 30 = .ok (.invokevirtual 95, 3) := dk_182 0 95 (dk_at dksX4_place_1 6 rfl rfl)
theorem dX4_place_33 : decode cX4_place 33 = .ok (.aload_n 0, 1) := dk_42 (dk_at dksX4_place_1 9 rfl rfl)
theorem dX4_place_34 : decode cX4_place 34 = .ok (.aload_n 1, 1) := dk_43 (dk_at dksX4_place_1 10 rfl rfl)
theorem dX4_place_35 : decode cX4_place 35 = .ok (.iload_n 2, 1) := dk_28 (dk_at dksX4_place_1 11 rfl rfl)
theorem dX4_place_36 : decode cX4_place 36 = .ok (.aload_n 0, 1) := dk_42 (dk_at dksX4_place_1 12 rfl rfl)
theorem dX4_place_37 : decode cX4_place 37 = .ok (.getfield 50, 3) := dk_180 0 50 (dk_at dksX4_place_1 13 rfl rfl)
theorem dX4_place_40 : decode cX4_place 40 = .ok (.iconst 0, 1) := dk_3 (dk_at dksX4_place_1 16 rfl rfl)
theorem dX4_place_41 : decode cX4_place 41 = .ok (.invokevirtual 257, 3) := dk_182 1 1 (dk_at dksX4_place_1 17 rfl rfl)
theorem dX4_place_44 : decode cX4_place 44 = .ok (.iconst (-1), 1) := dk_2 (dk_at dksX4_place_1 20 rfl rfl)
theorem dX4_place_45 : decode cX4_place 45 = .ok (.if_icmp .eq 7, 3) := dk_159 0 7 (dk_at dksX4_place_1 21 rfl rfl)
theorem dX4_place_48 : decode cX4_place 48 = .ok (.iconst 1, 1) := dk_4 (dk_at dksX4_place_2 0 rfl rfl)
theorem dX4_place_49 : decode cX4_place 49 = .ok (.goto 4, 3) := dk_167 0 4 (dk_at dksX4_place_2 1 rfl rfl)
theorem dX4_place_52 : decode cX4_place 52 = .ok (.iconst 0, 1) := dk_3 (dk_at dksX4_place_2 4 rfl rfl)
theorem dX4_place_53 : decode cX4_place 53 = .ok (.iconst 2, 1) := dk_5 (dk_at dksX4_place_2 5 rfl rfl)
theorem dX4_place_54 : decode cX4_place 54 = .ok (.invokevirtual 95, 3) := dk_182 0 95 (dk_at dksX4_place_2 6 rfl rfl)
theorem dX4_place_57 : decode cX4_place 57 = .ok (.aload_n 0, 1) := dk_42 (dk_at dksX4_place_2 9 rfl rfl)
theorem dX4_place_58 : decode cX4_place 58 = .ok (.getfield 50, 3) := dk_180 0 50 (dk_at dksX4_place_2 10 rfl rfl)
theorem dX4_place_61 : decode cX4_place 61 = .ok (.istore_n 3, 1) := dk_62 (dk_at dksX4_place_2 13 rfl rfl)
theorem dX4_place_62 : decode cX4_place 62 = .ok (.aload_n 0, 1) := dk_42 (dk_at dksX4_place_2 14 rfl rfl)
theorem dX4_place_63 : decode cX4_place 63 = .ok (.invokevirtual 29, 3) := dk_182 0 29 (dk_at dksX4_place_2 15 rfl rfl)
theorem dX4_place_66 : decode cX4_place 66 = .ok (.aload_n 0, 1) := dk_42 (dk_at dksX4_place_2 18 rfl rfl)
theorem dX4_place_67 : decode cX4_place 67 = .ok (.ldc_w 260, 3) := dk_19 1 4 (dk_at dksX4_place_2 19 rfl rfl)
theorem dX4_place_70 : decode cX4_place 70 = .ok (.invokevirtual 119, 3) := dk_182 0 119 (dk_at dksX4_place_3 0 rfl rfl)
theorem dX4_place_73 : decode cX4_place 73 = .ok (.aload_n 0, 1) := dk_42 (dk_at dksX4_place_3 3 rfl rfl)
theorem dX4_place_74 : decode cX4_place 74 = .ok (.aload_n 0, 1) := dk_42 (dk_at dksX4_place_3 4 rfl rfl)
theorem dX4_place_75 : decode cX4_place 75 = .ok (.getfield 61, 3) := dk_180 0 61 (dk_at dksX4_place_3 5 rfl rfl)
theorem dX4_place_78 : decode cX4_place 78 = .ok (.iconst 1, 1) := dk_4 (dk_at dksX4_place_3 8 rfl rfl)
theorem dX4_place_79 : decode cX4_place 79 = .ok (.invokevirtual 95, 3) := dk_182 0 95 (dk_at dksX4_place_3 9 rfl rfl)
theorem dX4_place_82 : decode cX4_place 82 = .ok (.aload_n 1, 1) := dk_43 (dk_at dksX4_place_3 12 rfl rfl)
theorem dX4_place_83 : decode cX4_place 83 = .ok (.iload_n 2, 1) := dk_28 (dk_at dksX4_place_3 13 rfl rfl)
theorem dX4_place_84 : decode cX4_place 84 = .ok (.iload_n 3, 1) := dk_29 (dk_at dksX4_place_3 14 rfl rfl)
theorem dX4_place_85 : decode cX4_place 85 = .ok (.aload_n 0, 1) := dk_42 (dk_at dksX4_place_3 15 rfl rfl)
theorem dX4_place_86 : decode cX4_place 86 = .ok (.getfield 50, 3) := dk_180 0 50 (dk_at dksX4_place_3 16 rfl rfl)
theorem dX4_place_89 : decode cX4_place 89 = .ok (.invokevirtual 257, 3) := dk_182 1 1 (dk_at dksX4_place_3 19 rfl rfl)
theorem dX4_place_92 : decode cX4_place 92 = .ok (.istore 4, 2) := dk_54 4 (dk_at dksX4_place_3 22 rfl rfl)
theorem dX4_place_94 : decode cX4_place 94 = .ok (.aload_n 0, 1) := dk_42 (dk_at dksX4_place_4 0 rfl rfl)
theorem dX4_place_95 : decode cX4_place 95 = .ok (.iload 4, 2) := dk_21 4 (dk_at dksX4_place_4 1 rfl rfl)
theorem dX4_place_97 : decode cX4_place 97 = .ok (.iconst (-1), 1) := dk_2 (dk_at dksX4_place_4 3 rfl rfl)
theorem dX4_place_98 : decode cX4_place 98 = .ok (.if_icmp .eq 7, 3) := dk_159 0 7 (dk_at dksX4_place_4 4 rfl rfl)
theorem dX4_place_101 : decode cX4_place 101 = .ok (.iconst 1, 1) := dk_4 (dk_at dksX4_place_4 7 rfl rfl)
theorem dX4_place_102 : decode cX4_place 102 = .ok (.goto 4, 3) := dk_167 0 4 (dk_at dksX4_place_4 8 rfl rfl)
theorem dX4_place_105 : decode cX4_place 105 = .ok (.iconst 0, 1) := dk_3 (dk_at dksX4_place_4 11 rfl rfl)
theorem dX4_place_106 : decode cX4_place 106 = .ok (.iconst 2, 1) := dk_5 (dk_at dksX4_place_4 12 rfl rfl)
theorem dX4_place_107 : decode cX4_place 107 = .ok (.invokevirtual 95, 3) := dk_182 0 95 (dk_at dksX4_place_4 13 rfl rfl)
theorem dX4_place_110 : decode cX4_place 110 = .ok (.aload_n 0, 1) := dk_42 (dk_at dksX4_place_4 16 rfl rfl)
theorem dX4_place_111 : decode cX4_place 111 = .ok (.invokevirtual 29, 3) := dk_182 0 29 (dk_at dksX4_place_4 17 rfl rfl)
theorem dX4_place_114 : decode cX4_place 114 = .ok (.iload 4, 2) := dk_21 4 (dk_at dksX4_place_4 20 rfl rfl)
theorem dX4_place_116 : decode cX4_place 116 = .ok (.ireturn, 1) := dk_172 (dk_at dksX4_place_4 22 rfl rfl)
abbrev cX4_said : ByteArray := prog_12_method_16_code
def yX4_said : MethodName := ⟨RX4, "said", "()Ljava/util/ArrayList;"⟩
def dkwX4_said_2 : List UInt8 := [7, 182, 0, 95, 42, 182, 0, 29, 43, 44, 182, 0, 245, 87, 42, 180, 0, 69, 154, 255, 218, 43, 176]
abbrev dktX4_said_2 : List UInt8 := dkwX4_said_2 ++ []
def dkwX4_said_1 : List UInt8 := [42, 182, 0, 29, 42, 182, 0, 150, 77, 42, 43, 182, 0, 140, 16, 6, 162, 0, 7, 4, 167, 0, 4, 3]
abbrev dktX4_said_1 : List UInt8 := dkwX4_said_1 ++ dktX4_said_2
def dkwX4_said_0 : List UInt8 := [187, 0, 141, 89, 5, 183, 0, 247, 76, 42, 180, 0, 17, 19, 1, 5, 182, 0, 99, 154, 0, 5, 43, 176]
abbrev dktX4_said_0 : List UInt8 := dkwX4_said_0 ++ dktX4_said_1
theorem dksX4_said_0 : cX4_said.data.toList.drop 0 = dktX4_said_0 := by decide +kernel
theorem dksX4_said_1 : cX4_said.data.toList.drop 24 = dktX4_said_1 := dk_seg dksX4_said_0 24 rfl rfl
theorem dksX4_said_2 : cX4_said.data.toList.drop 48 = dktX4_said_2 := dk_seg dksX4_said_1 24 rfl rfl
theorem dX4_said_0 : decode cX4_said 0 = .ok (.new 141, 3) := dk_187 0 141 (dk_at dksX4_said_0 0 rfl rfl)
theorem dX4_said_3 : decode cX4_said 3 = .ok (.dup, 1) := dk_89 (dk_at dksX4_said_0 3 rfl rfl)
theorem dX4_said_4 : decode cX4_said 4 = .ok (.iconst 2, 1) := dk_5 (dk_at dksX4_said_0 4 rfl rfl)
theorem dX4_said_5 : decode cX4_said 5 = .ok (.invokespecial 247, 3) := dk_183 0 247 (dk_at dksX4_said_0 5 rfl rfl)
theorem dX4_said_8 : decode cX4_said 8 = .ok (.astore_n 1, 1) := dk_76 (dk_at dksX4_said_0 8 rfl rfl)
theorem dX4_said_9 : decode cX4_said 9 = .ok (.aload_n 0, 1) := dk_42 (dk_at dksX4_said_0 9 rfl rfl)
theorem dX4_said_10 : decode cX4_said 10 = .ok (.getfield 17, 3) := dk_180 0 17 (dk_at dksX4_said_0 10 rfl rfl)
theorem dX4_said_13 : decode cX4_said 13 = .ok (.ldc_w 261, 3) := dk_19 1 5 (dk_at dksX4_said_0 13 rfl rfl)
theorem dX4_said_16 : decode cX4_said 16 = .ok (.invokevirtual 99, 3) := dk_182 0 99 (dk_at dksX4_said_0 16 rfl rfl)
theorem dX4_said_19 : decode cX4_said 19 = .ok (.ifCond .ne 5, 3) := dk_154 0 5 (dk_at dksX4_said_0 19 rfl rfl)
theorem dX4_said_22 : decode cX4_said 22 = .ok (.aload_n 1, 1) := dk_43 (dk_at dksX4_said_0 22 rfl rfl)
theorem dX4_said_23 : decode cX4_said 23 = .ok (.areturn, 1) := dk_176 (dk_at dksX4_said_0 23 rfl rfl)
theorem dX4_said_24 : decode cX4_said 24 = .ok (.aload_n 0, 1) := dk_42 (dk_at dksX4_said_1 0 rfl rfl)
theorem dX4_said_25 : decode cX4_said 25 = .ok (.invokevirtual 29, 3) := dk_182 0 29 (dk_at dksX4_said_1 1 rfl rfl)
theorem dX4_said_28 : decode cX4_said 28 = .ok (.aload_n 0, 1) := dk_42 (dk_at dksX4_said_1 4 rfl rfl)
theorem dX4_said_29 : decode cX4_said 29 = .ok (.invokevirtual 150, 3) := dk_182 0 150 (dk_at dksX4_said_1 5 rfl rfl)
theorem dX4_said_32 : decode cX4_said 32 = .ok (.astore_n 2, 1) := dk_77 (dk_at dksX4_said_1 8 rfl rfl)
theorem dX4_said_33 : decode cX4_said 33 = .ok (.aload_n 0, 1) := dk_42 (dk_at dksX4_said_1 9 rfl rfl)
theorem dX4_said_34 : decode cX4_said 34 = .ok (.aload_n 1, 1) := dk_43 (dk_at dksX4_said_1 10 rfl rfl)
theorem dX4_said_35 : decode cX4_said 35 = .ok (.invokevirtual 140, 3) := dk_182 0 140 (dk_at dksX4_said_1 11 rfl rfl)
theorem dX4_said_38 : decode cX4_said 38 = .ok (.bipush 6, 2) := dk_16 6 (dk_at dksX4_said_1 14 rfl rfl)
theorem dX4_said_40 : decode cX4_said 40 = .ok (.if_icmp .ge 7, 3) := dk_162 0 7 (dk_at dksX4_said_1 16 rfl rfl)
theorem dX4_said_43 : decode cX4_said 43 = .ok (.iconst 1, 1) := dk_4 (dk_at dksX4_said_1 19 rfl rfl)
theorem dX4_said_44 : decode cX4_said 44 = .ok (.goto 4, 3) := dk_167 0 4 (dk_at dksX4_said_1 20 rfl rfl)
theorem dX4_said_47 : decode cX4_said 47 = .ok (.iconst 0, 1) := dk_3 (dk_at dksX4_said_1 23 rfl rfl)
theorem dX4_said_48 : decode cX4_said 48 = .ok (.iconst 4, 1) := dk_7 (dk_at dksX4_said_2 0 rfl rfl)
theorem dX4_said_49 : decode cX4_said 49 = .ok (.invokevirtual 95, 3) := dk_182 0 95 (dk_at dksX4_said_2 1 rfl rfl)
theorem dX4_said_52 : decode cX4_said 52 = .ok (.aload_n 0, 1) := dk_42 (dk_at dksX4_said_2 4 rfl rfl)
theorem dX4_said_53 : decode cX4_said 53 = .ok (.invokevirtual 29, 3) := dk_182 0 29 (dk_at dksX4_said_2 5 rfl rfl)
theorem dX4_said_56 : decode cX4_said 56 = .ok (.aload_n 1, 1) := dk_43 (dk_at dksX4_said_2 8 rfl rfl)
theorem dX4_said_57 : decode cX4_said 57 = .ok (.aload_n 2, 1) := dk_44 (dk_at dksX4_said_2 9 rfl rfl)
theorem dX4_said_58 : decode cX4_said 58 = .ok (.invokevirtual 245, 3) := dk_182 0 245 (dk_at dksX4_said_2 10 rfl rfl)
theorem dX4_said_61 : decode cX4_said 61 = .ok (.pop, 1) := dk_87 (dk_at dksX4_said_2 13 rfl rfl)
theorem dX4_said_62 : decode cX4_said 62 = .ok (.aload_n 0, 1) := dk_42 (dk_at dksX4_said_2 14 rfl rfl)
theorem dX4_said_63 : decode cX4_said 63 = .ok (.getfield 69, 3) := dk_180 0 69 (dk_at dksX4_said_2 15 rfl rfl)
theorem dX4_said_66 : decode cX4_said 66 = .ok (.ifCond .ne (-38), 3) := dk_154 255 218 (dk_at dksX4_said_2 18 rfl rfl)
theorem dX4_said_69 : decode cX4_said 69 = .ok (.aload_n 1, 1) := dk_43 (dk_at dksX4_said_2 21 rfl rfl)
theorem dX4_said_70 : decode cX4_said 70 = .ok (.areturn, 1) := dk_176 (dk_at dksX4_said_2 22 rfl rfl)
theorem q145 : (Jvm.Cond.initialized "NoteImporter$Parser") ∈ lw_all := lw_g (lw_at lw_m1 26 rfl) rfl
theorem q592 : (Jvm.Cond.fieldLinkNest "NoteImporter$Parser" (134 : Nat) "NoteImporter$Library" "editions" "Ljava/util/ArrayList;" "NoteImporter") ∈ lw_tbl := lw_at lw_m2 233 rfl
theorem q595 : (Jvm.Cond.fieldLinkNest "NoteImporter$Parser" (165 : Nat) "NoteImporter$Library" "notes" "Ljava/util/ArrayList;" "NoteImporter") ∈ lw_tbl := lw_at lw_m2 236 rfl
theorem q598 : (Jvm.Cond.fieldLinkNest "NoteImporter$Parser" (147 : Nat) "NoteImporter$Library" "readers" "Ljava/util/ArrayList;" "NoteImporter") ∈ lw_tbl := lw_at lw_m2 239 rfl
theorem q601 : (Jvm.Cond.fieldLinkNest "NoteImporter$Parser" (153 : Nat) "NoteImporter$Library" "numbers" "Ljava/util/HashMap;" "NoteImporter") ∈ lw_tbl := lw_at lw_m3 2 rfl
theorem q604 : (Jvm.Cond.fieldLinkNest "NoteImporter$Parser" (176 : Nat) "NoteImporter$Library" "target" "I" "NoteImporter") ∈ lw_tbl := lw_at lw_m3 5 rfl
theorem q628 : (Jvm.Cond.fieldLinkNest "NoteImporter$Parser" (32 : Nat) "NoteImporter" "text" "[B" "NoteImporter") ∈ lw_tbl := lw_at lw_m3 29 rfl
theorem q855 : (Jvm.Cond.selects "NoteImporter$Parser" ({ cls := "java/lang/Object", name := "getClass", desc := "()Ljava/lang/Class;" } : Jvm.MethodName) ({ cls := "java/lang/Object", name := "getClass", desc := "()Ljava/lang/Class;" } : Jvm.MethodName)) ∈ lw_all := lw_g (lw_at lw_m4 16 rfl) rfl
theorem q1195 : (Jvm.Cond.selects "NoteImporter$Parser" ({ cls := "java/lang/Object", name := "hashCode", desc := "()I" } : Jvm.MethodName) ({ cls := "java/lang/Object", name := "hashCode", desc := "()I" } : Jvm.MethodName)) ∈ lw_all := lw_g (lw_at lw_m5 116 rfl) rfl
theorem q1297 : (Jvm.Cond.selects "NoteImporter$Parser" ({ cls := "java/lang/Object", name := "equals", desc := "(Ljava/lang/Object;)Z" } : Jvm.MethodName) ({ cls := "java/lang/Object", name := "equals", desc := "(Ljava/lang/Object;)Z" } : Jvm.MethodName)) ∈ lw_all := lw_g (lw_at lw_m5 218 rfl) rfl
theorem q1837 : (Jvm.Cond.instantiable "NoteImporter$Parser" (9 : Nat)) ∈ lw_all := lw_g (lw_at lw_m8 38 rfl) rfl
theorem q2339 : (Jvm.Cond.instanceMethod ({ cls := "NoteImporter$Parser", name := "<init>", desc := "(LNoteImporter;ILNoteImporter$Library;)V" } : Jvm.MethodName)) ∈ lw_all := lw_g (lw_at lw_m10 60 rfl) rfl
theorem q2340 : (Jvm.Cond.code ({ cls := "NoteImporter$Parser", name := "<init>", desc := "(LNoteImporter;ILNoteImporter$Library;)V" } : Jvm.MethodName) prog_12_method_1_code (4 : Nat) (Option.none : Option Jvm.ClassFile.FieldType)) ∈ lw_all := lw_g (lw_at lw_m10 61 rfl) rfl
theorem q2341 : (Jvm.Cond.methodLink "NoteImporter$Parser" (9 : Nat) ({ cls := "java/lang/Object", name := "<init>", desc := "()V" } : Jvm.MethodName)) ∈ lw_all := lw_g (lw_at lw_m10 62 rfl) rfl
theorem q2342 : (Jvm.Cond.stringRef "NoteImporter$Parser" (15 : Nat) "") ∈ lw_tbl := lw_at lw_m10 63 rfl
theorem q2343 : (Jvm.Cond.methodLink "NoteImporter$Parser" (29 : Nat) ({ cls := "NoteImporter$Parser", name := "advance", desc := "()V" } : Jvm.MethodName)) ∈ lw_all := lw_g (lw_at lw_m10 64 rfl) rfl
theorem q2344 : (Jvm.Cond.privateMethod ({ cls := "NoteImporter$Parser", name := "advance", desc := "()V" } : Jvm.MethodName)) ∈ lw_tbl := lw_at lw_m10 65 rfl
theorem q2345 : (Jvm.Cond.instanceMethod ({ cls := "NoteImporter$Parser", name := "advance", desc := "()V" } : Jvm.MethodName)) ∈ lw_all := lw_g (lw_at lw_m10 66 rfl) rfl
theorem q2346 : (Jvm.Cond.code ({ cls := "NoteImporter$Parser", name := "advance", desc := "()V" } : Jvm.MethodName) prog_12_method_3_code (2 : Nat) (Option.none : Option Jvm.ClassFile.FieldType)) ∈ lw_all := lw_g (lw_at lw_m10 67 rfl) rfl
theorem q2347 : (Jvm.Cond.methodLink "NoteImporter$Parser" (39 : Nat) ({ cls := "NoteImporter$Parser", name := "byteAt", desc := "(I)I" } : Jvm.MethodName)) ∈ lw_all := lw_g (lw_at lw_m10 68 rfl) rfl
theorem q2348 : (Jvm.Cond.privateMethod ({ cls := "NoteImporter$Parser", name := "byteAt", desc := "(I)I" } : Jvm.MethodName)) ∈ lw_tbl := lw_at lw_m10 69 rfl
theorem q2349 : (Jvm.Cond.instanceMethod ({ cls := "NoteImporter$Parser", name := "byteAt", desc := "(I)I" } : Jvm.MethodName)) ∈ lw_all := lw_g (lw_at lw_m10 70 rfl) rfl
theorem q2350 : (Jvm.Cond.code ({ cls := "NoteImporter$Parser", name := "byteAt", desc := "(I)I" } : Jvm.MethodName) prog_12_method_2_code (2 : Nat) (Option.some Jvm.ClassFile.FieldType.int)) ∈ lw_all := lw_g (lw_at lw_m10 71 rfl) rfl
theorem q2351 : (Jvm.Cond.methodLinkNest "NoteImporter$Parser" (43 : Nat) ({ cls := "NoteImporter", name := "isBlank", desc := "(I)Z" } : Jvm.MethodName) "NoteImporter") ∈ lw_tbl := lw_at lw_m10 72 rfl
theorem q2354 : (Jvm.Cond.constantLong "NoteImporter$Parser" (53 : Nat) (48 : Int64)) ∈ lw_all := lw_g (lw_at lw_m10 75 rfl) rfl
theorem q2355 : (Jvm.Cond.constantLong "NoteImporter$Parser" (55 : Nat) (57 : Int64)) ∈ lw_all := lw_g (lw_at lw_m10 76 rfl) rfl
theorem q2356 : (Jvm.Cond.methodLinkNest "NoteImporter$Parser" (57 : Nat) ({ cls := "NoteImporter", name := "isBetween", desc := "(JJJ)Z" } : Jvm.MethodName) "NoteImporter") ∈ lw_tbl := lw_at lw_m10 77 rfl
theorem q2357 : (Jvm.Cond.constantLong "NoteImporter$Parser" (65 : Nat) (97 : Int64)) ∈ lw_all := lw_g (lw_at lw_m10 78 rfl) rfl
theorem q2358 : (Jvm.Cond.constantLong "NoteImporter$Parser" (67 : Nat) (122 : Int64)) ∈ lw_all := lw_g (lw_at lw_m10 79 rfl) rfl
theorem q2359 : (Jvm.Cond.classLink "NoteImporter$Parser" (72 : Nat) "java/lang/StringBuilder") ∈ lw_all := lw_g (lw_at lw_m10 80 rfl) rfl
theorem q2360 : (Jvm.Cond.methodLink "NoteImporter$Parser" (74 : Nat) ({ cls := "java/lang/StringBuilder", name := "<init>", desc := "()V" } : Jvm.MethodName)) ∈ lw_all := lw_g (lw_at lw_m10 81 rfl) rfl
theorem q2361 : (Jvm.Cond.constant "NoteImporter$Parser" (75 : Nat) (99999 : Int32)) ∈ lw_all := lw_g (lw_at lw_m10 82 rfl) rfl
theorem q2362 : (Jvm.Cond.methodLink "NoteImporter$Parser" (76 : Nat) ({ cls := "java/lang/Math", name := "min", desc := "(II)I" } : Jvm.MethodName)) ∈ lw_all := lw_g (lw_at lw_m10 83 rfl) rfl
theorem q2363 : (Jvm.Cond.methodLink "NoteImporter$Parser" (82 : Nat) ({ cls := "java/lang/StringBuilder", name := "append", desc := "(C)Ljava/lang/StringBuilder;" } : Jvm.MethodName)) ∈ lw_all := lw_g (lw_at lw_m10 84 rfl) rfl
theorem q2383 : (Jvm.Cond.methodLink "NoteImporter$Parser" (86 : Nat) ({ cls := "java/lang/StringBuilder", name := "toString", desc := "()Ljava/lang/String;" } : Jvm.MethodName)) ∈ lw_all := lw_g (lw_at lw_m10 104 rfl) rfl
theorem q2384 : (Jvm.Cond.fieldLink "NoteImporter$Parser" (21 : Nat) "NoteImporter$Parser" "length" "I") ∈ lw_all := lw_g (lw_at lw_m10 105 rfl) rfl
theorem q2385 : (Jvm.Cond.fieldLink "NoteImporter$Parser" (25 : Nat) "NoteImporter$Parser" "made" "LNoteImporter$Library;") ∈ lw_all := lw_g (lw_at lw_m10 106 rfl) rfl
theorem q2387 : (Jvm.Cond.fieldLink "NoteImporter$Parser" (36 : Nat) "NoteImporter$Parser" "next" "I") ∈ lw_all := lw_g (lw_at lw_m10 108 rfl) rfl
theorem q2388 : (Jvm.Cond.fieldLink "NoteImporter$Parser" (47 : Nat) "NoteImporter$Parser" "begin" "I") ∈ lw_all := lw_g (lw_at lw_m10 109 rfl) rfl
theorem q2389 : (Jvm.Cond.fieldLink "NoteImporter$Parser" (61 : Nat) "NoteImporter$Parser" "isNumber" "Z") ∈ lw_all := lw_g (lw_at lw_m10 110 rfl) rfl
theorem q2390 : (Jvm.Cond.fieldLink "NoteImporter$Parser" (69 : Nat) "NoteImporter$Parser" "isWord" "Z") ∈ lw_all := lw_g (lw_at lw_m10 111 rfl) rfl
theorem q2391 : (Jvm.Cond.fieldLink "NoteImporter$Parser" (50 : Nat) "NoteImporter$Parser" "number" "I") ∈ lw_all := lw_g (lw_at lw_m10 112 rfl) rfl
theorem q2392 : (Jvm.Cond.fieldLink "NoteImporter$Parser" (17 : Nat) "NoteImporter$Parser" "token" "Ljava/lang/String;") ∈ lw_all := lw_g (lw_at lw_m10 113 rfl) rfl
theorem q2393 : (Jvm.Cond.fieldLink "NoteImporter$Parser" (3 : Nat) "NoteImporter$Parser" "this$0" "LNoteImporter;") ∈ lw_all := lw_g (lw_at lw_m10 114 rfl) rfl
theorem q2394 : (Jvm.Cond.laysFinal "NoteImporter$Parser" "NoteImporter$Parser" "length" "I") ∈ lw_all := lw_g (lw_at lw_m10 115 rfl) rfl
theorem q2395 : (Jvm.Cond.soleField "NoteImporter$Parser" "length") ∈ lw_all := lw_g (lw_at lw_m10 116 rfl) rfl
theorem q2396 : (Jvm.Cond.laysFinal "NoteImporter$Parser" "NoteImporter$Parser" "made" "LNoteImporter$Library;") ∈ lw_all := lw_g (lw_at lw_m10 117 rfl) rfl
theorem q2397 : (Jvm.Cond.soleField "NoteImporter$Parser" "made") ∈ lw_all := lw_g (lw_at lw_m10 118 rfl) rfl
theorem q2398 : (Jvm.Cond.lays "NoteImporter$Parser" "NoteImporter$Parser" "next" "I") ∈ lw_all := lw_g (lw_at lw_m10 119 rfl) rfl
theorem q2399 : (Jvm.Cond.soleField "NoteImporter$Parser" "next") ∈ lw_all := lw_g (lw_at lw_m10 120 rfl) rfl
theorem q2400 : (Jvm.Cond.lays "NoteImporter$Parser" "NoteImporter$Parser" "begin" "I") ∈ lw_all := lw_g (lw_at lw_m10 121 rfl) rfl
theorem q2401 : (Jvm.Cond.soleField "NoteImporter$Parser" "begin") ∈ lw_all := lw_g (lw_at lw_m10 122 rfl) rfl
theorem q2402 : (Jvm.Cond.lays "NoteImporter$Parser" "NoteImporter$Parser" "isNumber" "Z") ∈ lw_all := lw_g (lw_at lw_m10 123 rfl) rfl
theorem q2403 : (Jvm.Cond.soleField "NoteImporter$Parser" "isNumber") ∈ lw_all := lw_g (lw_at lw_m10 124 rfl) rfl
theorem q2404 : (Jvm.Cond.lays "NoteImporter$Parser" "NoteImporter$Parser" "isWord" "Z") ∈ lw_all := lw_g (lw_at lw_m10 125 rfl) rfl
theorem q2405 : (Jvm.Cond.soleField "NoteImporter$Parser" "isWord") ∈ lw_all := lw_g (lw_at lw_m10 126 rfl) rfl
theorem q2406 : (Jvm.Cond.lays "NoteImporter$Parser" "NoteImporter$Parser" "number" "I") ∈ lw_all := lw_g (lw_at lw_m10 127 rfl) rfl
theorem q2407 : (Jvm.Cond.soleField "NoteImporter$Parser" "number") ∈ lw_all := lw_g (lw_at lw_m10 128 rfl) rfl
theorem q2408 : (Jvm.Cond.lays "NoteImporter$Parser" "NoteImporter$Parser" "token" "Ljava/lang/String;") ∈ lw_all := lw_g (lw_at lw_m10 129 rfl) rfl
theorem q2409 : (Jvm.Cond.soleField "NoteImporter$Parser" "token") ∈ lw_all := lw_g (lw_at lw_m10 130 rfl) rfl
theorem q2410 : (Jvm.Cond.laysFinal "NoteImporter$Parser" "NoteImporter$Parser" "this$0" "LNoteImporter;") ∈ lw_all := lw_g (lw_at lw_m10 131 rfl) rfl
theorem q2411 : (Jvm.Cond.soleField "NoteImporter$Parser" "this$0") ∈ lw_all := lw_g (lw_at lw_m10 132 rfl) rfl
theorem q2412 : (Jvm.Cond.superclass "NoteImporter$Parser" "java/lang/Object") ∈ lw_all := lw_g (lw_at lw_m10 133 rfl) rfl
theorem q2414 : (Jvm.Cond.instanceMethod ({ cls := "NoteImporter$Parser", name := "records", desc := "()I" } : Jvm.MethodName)) ∈ lw_all := lw_g (lw_at lw_m10 135 rfl) rfl
theorem q2415 : (Jvm.Cond.selects "NoteImporter$Parser" ({ cls := "NoteImporter$Parser", name := "records", desc := "()I" } : Jvm.MethodName) ({ cls := "NoteImporter$Parser", name := "records", desc := "()I" } : Jvm.MethodName)) ∈ lw_all := lw_g (lw_at lw_m10 136 rfl) rfl
theorem q2416 : (Jvm.Cond.code ({ cls := "NoteImporter$Parser", name := "records", desc := "()I" } : Jvm.MethodName) prog_12_method_9_code (2 : Nat) (Option.some Jvm.ClassFile.FieldType.int)) ∈ lw_all := lw_g (lw_at lw_m10 137 rfl) rfl
theorem q2417 : (Jvm.Cond.methodLink "NoteImporter$Parser" (114 : Nat) ({ cls := "NoteImporter$Parser", name := "record", desc := "()V" } : Jvm.MethodName)) ∈ lw_all := lw_g (lw_at lw_m10 138 rfl) rfl
theorem q2418 : (Jvm.Cond.privateMethod ({ cls := "NoteImporter$Parser", name := "record", desc := "()V" } : Jvm.MethodName)) ∈ lw_tbl := lw_at lw_m10 139 rfl
theorem q2419 : (Jvm.Cond.instanceMethod ({ cls := "NoteImporter$Parser", name := "record", desc := "()V" } : Jvm.MethodName)) ∈ lw_all := lw_g (lw_at lw_m10 140 rfl) rfl
theorem q2420 : (Jvm.Cond.code ({ cls := "NoteImporter$Parser", name := "record", desc := "()V" } : Jvm.MethodName) prog_12_method_10_code (4 : Nat) (Option.none : Option Jvm.ClassFile.FieldType)) ∈ lw_all := lw_g (lw_at lw_m10 141 rfl) rfl
theorem q2421 : (Jvm.Cond.methodLink "NoteImporter$Parser" (123 : Nat) ({ cls := "java/lang/String", name := "hashCode", desc := "()I" } : Jvm.MethodName)) ∈ lw_all := lw_g (lw_at lw_m10 142 rfl) rfl
theorem q2422 : (Jvm.Cond.stringRef "NoteImporter$Parser" (126 : Nat) "edition") ∈ lw_tbl := lw_at lw_m10 143 rfl
theorem q2423 : (Jvm.Cond.methodLink "NoteImporter$Parser" (99 : Nat) ({ cls := "java/lang/String", name := "equals", desc := "(Ljava/lang/Object;)Z" } : Jvm.MethodName)) ∈ lw_all := lw_g (lw_at lw_m10 144 rfl) rfl
theorem q2424 : (Jvm.Cond.stringRef "NoteImporter$Parser" (128 : Nat) "reader") ∈ lw_tbl := lw_at lw_m10 145 rfl
theorem q2425 : (Jvm.Cond.stringRef "NoteImporter$Parser" (130 : Nat) "note") ∈ lw_tbl := lw_at lw_m10 146 rfl
theorem q2426 : (Jvm.Cond.stringRef "NoteImporter$Parser" (132 : Nat) "target") ∈ lw_tbl := lw_at lw_m10 147 rfl
theorem q2427 : (Jvm.Cond.methodLink "NoteImporter$Parser" (140 : Nat) ({ cls := "java/util/ArrayList", name := "size", desc := "()I" } : Jvm.MethodName)) ∈ lw_all := lw_g (lw_at lw_m10 148 rfl) rfl
theorem q2428 : (Jvm.Cond.methodLink "NoteImporter$Parser" (95 : Nat) ({ cls := "NoteImporter$Parser", name := "require", desc := "(ZI)V" } : Jvm.MethodName)) ∈ lw_all := lw_g (lw_at lw_m10 149 rfl) rfl
theorem q2429 : (Jvm.Cond.privateMethod ({ cls := "NoteImporter$Parser", name := "require", desc := "(ZI)V" } : Jvm.MethodName)) ∈ lw_tbl := lw_at lw_m10 150 rfl
theorem q2430 : (Jvm.Cond.instanceMethod ({ cls := "NoteImporter$Parser", name := "require", desc := "(ZI)V" } : Jvm.MethodName)) ∈ lw_all := lw_g (lw_at lw_m10 151 rfl) rfl
theorem q2431 : (Jvm.Cond.code ({ cls := "NoteImporter$Parser", name := "require", desc := "(ZI)V" } : Jvm.MethodName) prog_12_method_4_code (3 : Nat) (Option.none : Option Jvm.ClassFile.FieldType)) ∈ lw_all := lw_g (lw_at lw_m10 152 rfl) rfl
theorem q2432 : (Jvm.Cond.classLink "NoteImporter$Parser" (90 : Nat) "NoteImporter$ImportException") ∈ lw_all := lw_g (lw_at lw_m10 153 rfl) rfl
theorem q2441 : (Jvm.Cond.methodLink "NoteImporter$Parser" (92 : Nat) ({ cls := "NoteImporter$ImportException", name := "<init>", desc := "(IILjava/lang/Exception;)V" } : Jvm.MethodName)) ∈ lw_all := lw_g (lw_at lw_m10 162 rfl) rfl
theorem q2460 : (Jvm.Cond.methodLink "NoteImporter$Parser" (145 : Nat) ({ cls := "NoteImporter$Parser", name := "edition", desc := "()V" } : Jvm.MethodName)) ∈ lw_all := lw_g (lw_at lw_m10 181 rfl) rfl
theorem q2461 : (Jvm.Cond.privateMethod ({ cls := "NoteImporter$Parser", name := "edition", desc := "()V" } : Jvm.MethodName)) ∈ lw_tbl := lw_at lw_m10 182 rfl
theorem q2462 : (Jvm.Cond.instanceMethod ({ cls := "NoteImporter$Parser", name := "edition", desc := "()V" } : Jvm.MethodName)) ∈ lw_all := lw_g (lw_at lw_m10 183 rfl) rfl
theorem q2463 : (Jvm.Cond.code ({ cls := "NoteImporter$Parser", name := "edition", desc := "()V" } : Jvm.MethodName) prog_12_method_11_code (5 : Nat) (Option.none : Option Jvm.ClassFile.FieldType)) ∈ lw_all := lw_g (lw_at lw_m10 184 rfl) rfl
theorem q2464 : (Jvm.Cond.methodLink "NoteImporter$Parser" (174 : Nat) ({ cls := "NoteImporter$Parser", name := "number", desc := "(II)I" } : Jvm.MethodName)) ∈ lw_all := lw_g (lw_at lw_m10 185 rfl) rfl
theorem q2465 : (Jvm.Cond.privateMethod ({ cls := "NoteImporter$Parser", name := "number", desc := "(II)I" } : Jvm.MethodName)) ∈ lw_tbl := lw_at lw_m10 186 rfl
theorem q2466 : (Jvm.Cond.instanceMethod ({ cls := "NoteImporter$Parser", name := "number", desc := "(II)I" } : Jvm.MethodName)) ∈ lw_all := lw_g (lw_at lw_m10 187 rfl) rfl
theorem q2467 : (Jvm.Cond.code ({ cls := "NoteImporter$Parser", name := "number", desc := "(II)I" } : Jvm.MethodName) prog_12_method_5_code (4 : Nat) (Option.some Jvm.ClassFile.FieldType.int)) ∈ lw_all := lw_g (lw_at lw_m10 188 rfl) rfl
theorem q2468 : (Jvm.Cond.classLink "NoteImporter$Parser" (178 : Nat) "NoteImporter$Edition") ∈ lw_all := lw_g (lw_at lw_m10 189 rfl) rfl
theorem q2469 : (Jvm.Cond.methodLink "NoteImporter$Parser" (180 : Nat) ({ cls := "NoteImporter$Edition", name := "<init>", desc := "(II)V" } : Jvm.MethodName)) ∈ lw_all := lw_g (lw_at lw_m10 190 rfl) rfl
theorem q2470 : (Jvm.Cond.stringRef "NoteImporter$Parser" (183 : Nat) "/") ∈ lw_tbl := lw_at lw_m10 191 rfl
theorem q2471 : (Jvm.Cond.methodLink "NoteImporter$Parser" (150 : Nat) ({ cls := "NoteImporter$Parser", name := "name", desc := "()Ljava/lang/String;" } : Jvm.MethodName)) ∈ lw_all := lw_g (lw_at lw_m10 192 rfl) rfl
theorem q2472 : (Jvm.Cond.privateMethod ({ cls := "NoteImporter$Parser", name := "name", desc := "()Ljava/lang/String;" } : Jvm.MethodName)) ∈ lw_tbl := lw_at lw_m10 193 rfl
theorem q2473 : (Jvm.Cond.instanceMethod ({ cls := "NoteImporter$Parser", name := "name", desc := "()Ljava/lang/String;" } : Jvm.MethodName)) ∈ lw_all := lw_g (lw_at lw_m10 194 rfl) rfl
theorem q2474 : (Jvm.Cond.codeWith ({ cls := "NoteImporter$Parser", name := "name", desc := "()Ljava/lang/String;" } : Jvm.MethodName) prog_12_method_8_code (2 : Nat) (Option.some (Jvm.ClassFile.FieldType.object "java/lang/String")) [((0 : Nat), (4 : Nat), (5 : Nat), (108 : Nat))]) ∈ lw_all := lw_g (lw_at lw_m10 195 rfl) rfl
theorem q2475 : (Jvm.Cond.classLink "NoteImporter$Parser" (108 : Nat) "NoteImporter$WordException") ∈ lw_all := lw_g (lw_at lw_m10 196 rfl) rfl
theorem q2476 : (Jvm.Cond.methodLink "NoteImporter$Parser" (111 : Nat) ({ cls := "NoteImporter$Parser", name := "word", desc := "()Ljava/lang/String;" } : Jvm.MethodName)) ∈ lw_all := lw_g (lw_at lw_m10 197 rfl) rfl
theorem q2477 : (Jvm.Cond.privateMethod ({ cls := "NoteImporter$Parser", name := "word", desc := "()Ljava/lang/String;" } : Jvm.MethodName)) ∈ lw_tbl := lw_at lw_m10 198 rfl
theorem q2478 : (Jvm.Cond.instanceMethod ({ cls := "NoteImporter$Parser", name := "word", desc := "()Ljava/lang/String;" } : Jvm.MethodName)) ∈ lw_all := lw_g (lw_at lw_m10 199 rfl) rfl
theorem q2479 : (Jvm.Cond.code ({ cls := "NoteImporter$Parser", name := "word", desc := "()Ljava/lang/String;" } : Jvm.MethodName) prog_12_method_7_code (1 : Nat) (Option.some (Jvm.ClassFile.FieldType.object "java/lang/String"))) ∈ lw_all := lw_g (lw_at lw_m10 200 rfl) rfl
theorem q2480 : (Jvm.Cond.methodLink "NoteImporter$Parser" (105 : Nat) ({ cls := "java/lang/String", name := "length", desc := "()I" } : Jvm.MethodName)) ∈ lw_all := lw_g (lw_at lw_m10 201 rfl) rfl
theorem q2489 : (Jvm.Cond.methodLink "NoteImporter$Parser" (110 : Nat) ({ cls := "NoteImporter$WordException", name := "<init>", desc := "()V" } : Jvm.MethodName)) ∈ lw_all := lw_g (lw_at lw_m10 210 rfl) rfl
theorem q2495 : (Jvm.Cond.methodLink "NoteImporter$Parser" (185 : Nat) ({ cls := "NoteImporter$Edition", name := "size", desc := "()I" } : Jvm.MethodName)) ∈ lw_all := lw_g (lw_at lw_m10 216 rfl) rfl
theorem q2496 : (Jvm.Cond.methodLink "NoteImporter$Parser" (186 : Nat) ({ cls := "NoteImporter$Edition", name := "add", desc := "(Ljava/lang/String;Z)V" } : Jvm.MethodName)) ∈ lw_all := lw_g (lw_at lw_m10 217 rfl) rfl
theorem q2508 : (Jvm.Cond.methodLink "NoteImporter$Parser" (190 : Nat) ({ cls := "NoteImporter$Library", name := "addEdition", desc := "(LNoteImporter$Edition;)I" } : Jvm.MethodName)) ∈ lw_all := lw_g (lw_at lw_m10 229 rfl) rfl
theorem q2513 : (Jvm.Cond.methodLink "NoteImporter$Parser" (157 : Nat) ({ cls := "java/util/HashMap", name := "containsKey", desc := "(Ljava/lang/Object;)Z" } : Jvm.MethodName)) ∈ lw_all := lw_g (lw_at lw_m10 234 rfl) rfl
theorem q2514 : (Jvm.Cond.methodLink "NoteImporter$Parser" (162 : Nat) ({ cls := "NoteImporter$Library", name := "addReader", desc := "(Ljava/lang/String;)V" } : Jvm.MethodName)) ∈ lw_all := lw_g (lw_at lw_m10 235 rfl) rfl
theorem q2515 : (Jvm.Cond.methodLink "NoteImporter$Parser" (168 : Nat) ({ cls := "java/util/ArrayList", name := "isEmpty", desc := "()Z" } : Jvm.MethodName)) ∈ lw_all := lw_g (lw_at lw_m10 236 rfl) rfl
theorem q2516 : (Jvm.Cond.methodLink "NoteImporter$Parser" (172 : Nat) ({ cls := "NoteImporter$Parser", name := "note", desc := "()V" } : Jvm.MethodName)) ∈ lw_all := lw_g (lw_at lw_m10 237 rfl) rfl
theorem q2517 : (Jvm.Cond.privateMethod ({ cls := "NoteImporter$Parser", name := "note", desc := "()V" } : Jvm.MethodName)) ∈ lw_tbl := lw_at lw_m10 238 rfl
theorem q2518 : (Jvm.Cond.instanceMethod ({ cls := "NoteImporter$Parser", name := "note", desc := "()V" } : Jvm.MethodName)) ∈ lw_all := lw_g (lw_at lw_m10 239 rfl) rfl
theorem q2519 : (Jvm.Cond.code ({ cls := "NoteImporter$Parser", name := "note", desc := "()V" } : Jvm.MethodName) prog_12_method_13_code (9 : Nat) (Option.none : Option Jvm.ClassFile.FieldType)) ∈ lw_all := lw_g (lw_at lw_m11 0 rfl) rfl
theorem q2520 : (Jvm.Cond.methodLink "NoteImporter$Parser" (205 : Nat) ({ cls := "java/util/HashMap", name := "get", desc := "(Ljava/lang/Object;)Ljava/lang/Object;" } : Jvm.MethodName)) ∈ lw_all := lw_g (lw_at lw_m11 1 rfl) rfl
theorem q2524 : (Jvm.Cond.classLink "NoteImporter$Parser" (209 : Nat) "java/lang/Integer") ∈ lw_all := lw_g (lw_at lw_m11 5 rfl) rfl
theorem q2525 : (Jvm.Cond.methodLink "NoteImporter$Parser" (211 : Nat) ({ cls := "java/lang/Integer", name := "intValue", desc := "()I" } : Jvm.MethodName)) ∈ lw_all := lw_g (lw_at lw_m11 6 rfl) rfl
theorem q2526 : (Jvm.Cond.methodLink "NoteImporter$Parser" (214 : Nat) ({ cls := "NoteImporter$Parser", name := "kind", desc := "()I" } : Jvm.MethodName)) ∈ lw_all := lw_g (lw_at lw_m11 7 rfl) rfl
theorem q2527 : (Jvm.Cond.privateMethod ({ cls := "NoteImporter$Parser", name := "kind", desc := "()I" } : Jvm.MethodName)) ∈ lw_tbl := lw_at lw_m11 8 rfl
theorem q2528 : (Jvm.Cond.instanceMethod ({ cls := "NoteImporter$Parser", name := "kind", desc := "()I" } : Jvm.MethodName)) ∈ lw_all := lw_g (lw_at lw_m11 9 rfl) rfl
theorem q2529 : (Jvm.Cond.code ({ cls := "NoteImporter$Parser", name := "kind", desc := "()I" } : Jvm.MethodName) prog_12_method_12_code (5 : Nat) (Option.some Jvm.ClassFile.FieldType.int)) ∈ lw_all := lw_g (lw_at lw_m11 10 rfl) rfl
theorem q2530 : (Jvm.Cond.methodLink "NoteImporter$Parser" (194 : Nat) ({ cls := "NoteImporter$Kind", name := "values", desc := "()[LNoteImporter$Kind;" } : Jvm.MethodName)) ∈ lw_all := lw_g (lw_at lw_m11 11 rfl) rfl
theorem q2541 : (Jvm.Cond.methodLink "NoteImporter$Parser" (202 : Nat) ({ cls := "NoteImporter$Kind", name := "ordinal", desc := "()I" } : Jvm.MethodName)) ∈ lw_all := lw_g (lw_at lw_m11 22 rfl) rfl
theorem q2547 : (Jvm.Cond.methodLink "NoteImporter$Parser" (217 : Nat) ({ cls := "java/util/ArrayList", name := "get", desc := "(I)Ljava/lang/Object;" } : Jvm.MethodName)) ∈ lw_all := lw_g (lw_at lw_m11 28 rfl) rfl
theorem q2548 : (Jvm.Cond.stringRef "NoteImporter$Parser" (220 : Nat) "quote") ∈ lw_tbl := lw_at lw_m11 29 rfl
theorem q2549 : (Jvm.Cond.stringRef "NoteImporter$Parser" (222 : Nat) "\"") ∈ lw_tbl := lw_at lw_m11 30 rfl
theorem q2550 : (Jvm.Cond.methodLink "NoteImporter$Parser" (119 : Nat) ({ cls := "NoteImporter$Parser", name := "expect", desc := "(Ljava/lang/String;)V" } : Jvm.MethodName)) ∈ lw_all := lw_g (lw_at lw_m11 31 rfl) rfl
theorem q2551 : (Jvm.Cond.privateMethod ({ cls := "NoteImporter$Parser", name := "expect", desc := "(Ljava/lang/String;)V" } : Jvm.MethodName)) ∈ lw_tbl := lw_at lw_m11 32 rfl
theorem q2552 : (Jvm.Cond.instanceMethod ({ cls := "NoteImporter$Parser", name := "expect", desc := "(Ljava/lang/String;)V" } : Jvm.MethodName)) ∈ lw_all := lw_g (lw_at lw_m11 33 rfl) rfl
theorem q2553 : (Jvm.Cond.code ({ cls := "NoteImporter$Parser", name := "expect", desc := "(Ljava/lang/String;)V" } : Jvm.MethodName) prog_12_method_6_code (2 : Nat) (Option.none : Option Jvm.ClassFile.FieldType)) ∈ lw_all := lw_g (lw_at lw_m11 34 rfl) rfl
theorem q2554 : (Jvm.Cond.methodLink "NoteImporter$Parser" (224 : Nat) ({ cls := "NoteImporter$Parser", name := "quoted", desc := "()Ljava/util/ArrayList;" } : Jvm.MethodName)) ∈ lw_all := lw_g (lw_at lw_m11 35 rfl) rfl
theorem q2555 : (Jvm.Cond.privateMethod ({ cls := "NoteImporter$Parser", name := "quoted", desc := "()Ljava/util/ArrayList;" } : Jvm.MethodName)) ∈ lw_tbl := lw_at lw_m11 36 rfl
theorem q2556 : (Jvm.Cond.instanceMethod ({ cls := "NoteImporter$Parser", name := "quoted", desc := "()Ljava/util/ArrayList;" } : Jvm.MethodName)) ∈ lw_all := lw_g (lw_at lw_m11 37 rfl) rfl
theorem q2557 : (Jvm.Cond.code ({ cls := "NoteImporter$Parser", name := "quoted", desc := "()Ljava/util/ArrayList;" } : Jvm.MethodName) prog_12_method_14_code (2 : Nat) (Option.some (Jvm.ClassFile.FieldType.object "java/util/ArrayList"))) ∈ lw_all := lw_g (lw_at lw_m11 38 rfl) rfl
theorem q2558 : (Jvm.Cond.classLink "NoteImporter$Parser" (141 : Nat) "java/util/ArrayList") ∈ lw_all := lw_g (lw_at lw_m11 39 rfl) rfl
theorem q2559 : (Jvm.Cond.methodLink "NoteImporter$Parser" (247 : Nat) ({ cls := "java/util/ArrayList", name := "<init>", desc := "(I)V" } : Jvm.MethodName)) ∈ lw_all := lw_g (lw_at lw_m11 40 rfl) rfl
theorem q2560 : (Jvm.Cond.methodLink "NoteImporter$Parser" (245 : Nat) ({ cls := "java/util/ArrayList", name := "add", desc := "(Ljava/lang/Object;)Z" } : Jvm.MethodName)) ∈ lw_all := lw_g (lw_at lw_m11 41 rfl) rfl
theorem q2561 : (Jvm.Cond.methodLink "NoteImporter$Parser" (228 : Nat) ({ cls := "NoteImporter$Edition", name := "find", desc := "(Ljava/util/ArrayList;)I" } : Jvm.MethodName)) ∈ lw_all := lw_g (lw_at lw_m11 42 rfl) rfl
theorem q2566 : (Jvm.Cond.methodLink "NoteImporter$Parser" (232 : Nat) ({ cls := "NoteImporter$Parser", name := "place", desc := "(LNoteImporter$Edition;)I" } : Jvm.MethodName)) ∈ lw_all := lw_g (lw_at lw_m11 47 rfl) rfl
theorem q2567 : (Jvm.Cond.privateMethod ({ cls := "NoteImporter$Parser", name := "place", desc := "(LNoteImporter$Edition;)I" } : Jvm.MethodName)) ∈ lw_tbl := lw_at lw_m11 48 rfl
theorem q2568 : (Jvm.Cond.instanceMethod ({ cls := "NoteImporter$Parser", name := "place", desc := "(LNoteImporter$Edition;)I" } : Jvm.MethodName)) ∈ lw_all := lw_g (lw_at lw_m11 49 rfl) rfl
theorem q2569 : (Jvm.Cond.code ({ cls := "NoteImporter$Parser", name := "place", desc := "(LNoteImporter$Edition;)I" } : Jvm.MethodName) prog_12_method_15_code (5 : Nat) (Option.some Jvm.ClassFile.FieldType.int)) ∈ lw_all := lw_g (lw_at lw_m11 50 rfl) rfl
theorem q2570 : (Jvm.Cond.stringRef "NoteImporter$Parser" (250 : Nat) "page") ∈ lw_tbl := lw_at lw_m11 51 rfl
theorem q2571 : (Jvm.Cond.methodLink "NoteImporter$Parser" (252 : Nat) ({ cls := "NoteImporter$Edition", name := "pageCount", desc := "()I" } : Jvm.MethodName)) ∈ lw_all := lw_g (lw_at lw_m11 52 rfl) rfl
theorem q2572 : (Jvm.Cond.stringRef "NoteImporter$Parser" (255 : Nat) "line") ∈ lw_tbl := lw_at lw_m11 53 rfl
theorem q2573 : (Jvm.Cond.methodLink "NoteImporter$Parser" (257 : Nat) ({ cls := "NoteImporter$Edition", name := "find", desc := "(III)I" } : Jvm.MethodName)) ∈ lw_all := lw_g (lw_at lw_m11 54 rfl) rfl
theorem q2578 : (Jvm.Cond.stringRef "NoteImporter$Parser" (260 : Nat) "word") ∈ lw_tbl := lw_at lw_m11 59 rfl
theorem q2579 : (Jvm.Cond.stringRef "NoteImporter$Parser" (235 : Nat) "count") ∈ lw_tbl := lw_at lw_m11 60 rfl
theorem q2580 : (Jvm.Cond.classLink "NoteImporter$Parser" (237 : Nat) "NoteImporter$Note") ∈ lw_all := lw_g (lw_at lw_m11 61 rfl) rfl
theorem q2581 : (Jvm.Cond.methodLink "NoteImporter$Parser" (239 : Nat) ({ cls := "NoteImporter$Parser", name := "said", desc := "()Ljava/util/ArrayList;" } : Jvm.MethodName)) ∈ lw_all := lw_g (lw_at lw_m11 62 rfl) rfl
theorem q2582 : (Jvm.Cond.privateMethod ({ cls := "NoteImporter$Parser", name := "said", desc := "()Ljava/util/ArrayList;" } : Jvm.MethodName)) ∈ lw_tbl := lw_at lw_m11 63 rfl
theorem q2583 : (Jvm.Cond.instanceMethod ({ cls := "NoteImporter$Parser", name := "said", desc := "()Ljava/util/ArrayList;" } : Jvm.MethodName)) ∈ lw_all := lw_g (lw_at lw_m11 64 rfl) rfl
theorem q2584 : (Jvm.Cond.code ({ cls := "NoteImporter$Parser", name := "said", desc := "()Ljava/util/ArrayList;" } : Jvm.MethodName) prog_12_method_16_code (3 : Nat) (Option.some (Jvm.ClassFile.FieldType.object "java/util/ArrayList"))) ∈ lw_all := lw_g (lw_at lw_m11 65 rfl) rfl
theorem q2585 : (Jvm.Cond.stringRef "NoteImporter$Parser" (261 : Nat) "says") ∈ lw_tbl := lw_at lw_m11 66 rfl
theorem q2586 : (Jvm.Cond.methodLink "NoteImporter$Parser" (242 : Nat) ({ cls := "NoteImporter$Note", name := "<init>", desc := "(IIIIILjava/util/ArrayList;)V" } : Jvm.MethodName)) ∈ lw_all := lw_g (lw_at lw_m11 67 rfl) rfl
theorem q2587 : (Jvm.Cond.stringRef "NoteImporter$Parser" (117 : Nat) ";") ∈ lw_tbl := lw_at lw_m11 68 rfl
theorem q3803 : (Jvm.Cond.castable "NoteImporter$Parser" "java/lang/Object") ∈ lw_tbl := lw_at lw_m16 84 rfl
theorem q3854 : (Jvm.Cond.fieldLinkNest "NoteImporter$Parser" (200 : Nat) "NoteImporter$Kind" "word" "Ljava/lang/String;" "NoteImporter") ∈ lw_tbl := lw_at lw_m16 135 rfl
theorem in_X4 : ∀ w ∈ wsX40, w ∈ lw_all := lw_in wsX40 [2394, 2396, 2398, 2400, 2402, 2404, 2406, 2408, 2410] (by decide +kernel) (by decide +kernel)

/-! NoteImporter$Edition -/
set_option maxRecDepth 100000
def RX5 : String := "NoteImporter$Edition"
def TX5 : u_T := fun k => match k with
  | 0 => ("NoteImporter$Edition", "words", "Ljava/util/ArrayList;", true)
  | 1 => ("NoteImporter$Edition", "begins", "Ljava/util/ArrayList;", true)
  | 2 => ("NoteImporter$Edition", "width", "I", false)
  | 3 => ("NoteImporter$Edition", "lines", "I", false)
  | 4 => ("NoteImporter$Edition", "lineOf", "[I", true)
  | 5 => ("NoteImporter$Edition", "columnOf", "[I", true)
  | _ => ("NoteImporter$Edition", "indexOf", "[I", true)
def tyX5 : Nat → FieldType := fun k => match k with
  | 0 => .object "java/util/ArrayList"
  | 1 => .object "java/util/ArrayList"
  | 2 => .int
  | 3 => .int
  | 4 => .array .int
  | 5 => .array .int
  | _ => .array .int
abbrev wsX50 : List Cond := u_ws RX5 TX5 7
theorem nmX5 : ∀ a, a < 7 → ∀ b, b < 7 → a ≠ b → (TX5 a).2.1 ≠ (TX5 b).2.1 := by decide +kernel
theorem tyX5_ok : ∀ k, k < 7 → parseFieldDescriptor (TX5 k).2.2.1 = some (tyX5 k) := by decide +kernel
abbrev cX5_size : ByteArray := prog_6_method_3_code
def yX5_size : MethodName := ⟨RX5, "size", "()I"⟩
def dkwX5_size_0 : List UInt8 := [42, 180, 0, 14, 182, 0, 50, 172]
abbrev dktX5_size_0 : List UInt8 := dkwX5_size_0 ++ []
theorem dksX5_size_0 : cX5_size.data.toList.drop 0 = dktX5_size_0 := by decide +kernel
theorem dX5_size_0 : decode cX5_size 0 = .ok (.aload_n 0, 1) := dk_42 (dk_at dksX5_size_0 0 rfl rfl)
theorem dX5_size_1 : decode cX5_size 1 = .ok (.getfield 14, 3) := dk_180 0 14 (dk_at dksX5_size_0 1 rfl rfl)
theorem dX5_size_4 : decode cX5_size 4 = .ok (.invokevirtual 50, 3) := dk_182 0 50 (dk_at dksX5_size_0 4 rfl rfl)
theorem dX5_size_7 : decode cX5_size 7 = .ok (.ireturn, 1) := dk_172 (dk_at dksX5_size_0 7 rfl rfl)
abbrev cX5_pageCount : ByteArray := prog_6_method_8_code
def yX5_pageCount : MethodName := ⟨RX5, "pageCount", "()I"⟩
def dkwX5_pageCount_0 : List UInt8 := [42, 182, 0, 81, 42, 180, 0, 37, 96, 4, 100, 42, 180, 0, 37, 108, 172]
abbrev dktX5_pageCount_0 : List UInt8 := dkwX5_pageCount_0 ++ []
theorem dksX5_pageCount_0 : cX5_pageCount.data.toList.drop 0 = dktX5_pageCount_0 := by decide +kernel
theorem dX5_pageCount_0 : decode cX5_pageCount 0 = .ok (.aload_n 0, 1) := dk_42 (dk_at dksX5_pageCount_0 0 rfl rfl)
theorem dX5_pageCount_1 : decode cX5_pageCount 1 = .ok (.invokevirtual 81, 3) := dk_182 0 81 (dk_at dksX5_pageCount_0 1 rfl rfl)
theorem dX5_pageCount_4 : decode cX5_pageCount 4 = .ok (.aload_n 0, 1) := dk_42 (dk_at dksX5_pageCount_0 4 rfl rfl)
theorem dX5_pageCount_5 : decode cX5_pageCount 5 = .ok (.getfield 37, 3) := dk_180 0 37 (dk_at dksX5_pageCount_0 5 rfl rfl)
theorem dX5_pageCount_8 : decode cX5_pageCount 8 = .ok (.iadd, 1) := dk_96 (dk_at dksX5_pageCount_0 8 rfl rfl)
theorem dX5_pageCount_9 : decode cX5_pageCount 9 = .ok (.iconst 1, 1) := dk_4 (dk_at dksX5_pageCount_0 9 rfl rfl)
theorem dX5_pageCount_10 : decode cX5_pageCount 10 = .ok (.isub, 1) := dk_100 (dk_at dksX5_pageCount_0 10 rfl rfl)
theorem dX5_pageCount_11 : decode cX5_pageCount 11 = .ok (.aload_n 0, 1) := dk_42 (dk_at dksX5_pageCount_0 11 rfl rfl)
theorem dX5_pageCount_12 : decode cX5_pageCount 12 = .ok (.getfield 37, 3) := dk_180 0 37 (dk_at dksX5_pageCount_0 12 rfl rfl)
theorem dX5_pageCount_15 : decode cX5_pageCount 15 = .ok (.idiv, 1) := dk_108 (dk_at dksX5_pageCount_0 15 rfl rfl)
theorem dX5_pageCount_16 : decode cX5_pageCount 16 = .ok (.ireturn, 1) := dk_172 (dk_at dksX5_pageCount_0 16 rfl rfl)
abbrev cX5_lineCount : ByteArray := prog_6_method_7_code
def yX5_lineCount : MethodName := ⟨RX5, "lineCount", "()I"⟩
def dkwX5_lineCount_0 : List UInt8 := [42, 180, 0, 23, 42, 182, 0, 78, 46, 4, 96, 172]
abbrev dktX5_lineCount_0 : List UInt8 := dkwX5_lineCount_0 ++ []
theorem dksX5_lineCount_0 : cX5_lineCount.data.toList.drop 0 = dktX5_lineCount_0 := by decide +kernel
theorem dX5_lineCount_0 : decode cX5_lineCount 0 = .ok (.aload_n 0, 1) := dk_42 (dk_at dksX5_lineCount_0 0 rfl rfl)
theorem dX5_lineCount_1 : decode cX5_lineCount 1 = .ok (.getfield 23, 3) := dk_180 0 23 (dk_at dksX5_lineCount_0 1 rfl rfl)
theorem dX5_lineCount_4 : decode cX5_lineCount 4 = .ok (.aload_n 0, 1) := dk_42 (dk_at dksX5_lineCount_0 4 rfl rfl)
theorem dX5_lineCount_5 : decode cX5_lineCount 5 = .ok (.invokevirtual 78, 3) := dk_182 0 78 (dk_at dksX5_lineCount_0 5 rfl rfl)
theorem dX5_lineCount_8 : decode cX5_lineCount 8 = .ok (.iaload, 1) := dk_46 (dk_at dksX5_lineCount_0 8 rfl rfl)
theorem dX5_lineCount_9 : decode cX5_lineCount 9 = .ok (.iconst 1, 1) := dk_4 (dk_at dksX5_lineCount_0 9 rfl rfl)
theorem dX5_lineCount_10 : decode cX5_lineCount 10 = .ok (.iadd, 1) := dk_96 (dk_at dksX5_lineCount_0 10 rfl rfl)
theorem dX5_lineCount_11 : decode cX5_lineCount 11 = .ok (.ireturn, 1) := dk_172 (dk_at dksX5_lineCount_0 11 rfl rfl)
abbrev cX5_last : ByteArray := prog_6_method_4_code
def yX5_last : MethodName := ⟨RX5, "last", "()I"⟩
def dkwX5_last_0 : List UInt8 := [42, 180, 0, 14, 182, 0, 50, 4, 100, 172]
abbrev dktX5_last_0 : List UInt8 := dkwX5_last_0 ++ []
theorem dksX5_last_0 : cX5_last.data.toList.drop 0 = dktX5_last_0 := by decide +kernel
theorem dX5_last_0 : decode cX5_last 0 = .ok (.aload_n 0, 1) := dk_42 (dk_at dksX5_last_0 0 rfl rfl)
theorem dX5_last_1 : decode cX5_last 1 = .ok (.getfield 14, 3) := dk_180 0 14 (dk_at dksX5_last_0 1 rfl rfl)
theorem dX5_last_4 : decode cX5_last 4 = .ok (.invokevirtual 50, 3) := dk_182 0 50 (dk_at dksX5_last_0 4 rfl rfl)
theorem dX5_last_7 : decode cX5_last 7 = .ok (.iconst 1, 1) := dk_4 (dk_at dksX5_last_0 7 rfl rfl)
theorem dX5_last_8 : decode cX5_last 8 = .ok (.isub, 1) := dk_100 (dk_at dksX5_last_0 8 rfl rfl)
theorem dX5_last_9 : decode cX5_last 9 = .ok (.ireturn, 1) := dk_172 (dk_at dksX5_last_0 9 rfl rfl)
abbrev cX5_page : ByteArray := prog_6_method_9_code
def yX5_page : MethodName := ⟨RX5, "page", "(I)I"⟩
def dkwX5_page_0 : List UInt8 := [42, 180, 0, 23, 27, 46, 42, 180, 0, 37, 108, 172]
abbrev dktX5_page_0 : List UInt8 := dkwX5_page_0 ++ []
theorem dksX5_page_0 : cX5_page.data.toList.drop 0 = dktX5_page_0 := by decide +kernel
theorem dX5_page_0 : decode cX5_page 0 = .ok (.aload_n 0, 1) := dk_42 (dk_at dksX5_page_0 0 rfl rfl)
theorem dX5_page_1 : decode cX5_page 1 = .ok (.getfield 23, 3) := dk_180 0 23 (dk_at dksX5_page_0 1 rfl rfl)
theorem dX5_page_4 : decode cX5_page 4 = .ok (.iload_n 1, 1) := dk_27 (dk_at dksX5_page_0 4 rfl rfl)
theorem dX5_page_5 : decode cX5_page 5 = .ok (.iaload, 1) := dk_46 (dk_at dksX5_page_0 5 rfl rfl)
theorem dX5_page_6 : decode cX5_page 6 = .ok (.aload_n 0, 1) := dk_42 (dk_at dksX5_page_0 6 rfl rfl)
theorem dX5_page_7 : decode cX5_page 7 = .ok (.getfield 37, 3) := dk_180 0 37 (dk_at dksX5_page_0 7 rfl rfl)
theorem dX5_page_10 : decode cX5_page 10 = .ok (.idiv, 1) := dk_108 (dk_at dksX5_page_0 10 rfl rfl)
theorem dX5_page_11 : decode cX5_page 11 = .ok (.ireturn, 1) := dk_172 (dk_at dksX5_page_0 11 rfl rfl)
abbrev cX5_copy : ByteArray := prog_6_method_2_code
def yX5_copy : MethodName := ⟨RX5, "copy", "()LNoteImporter$Edition;"⟩
def dkwX5_copy_1 : List UInt8 := [182, 0, 43, 87, 43, 180, 0, 20, 42, 180, 0, 20, 182, 0, 43, 87, 43, 182, 0, 47, 43, 176]
abbrev dktX5_copy_1 : List UInt8 := dkwX5_copy_1 ++ []
def dkwX5_copy_0 : List UInt8 := [187, 0, 15, 89, 42, 180, 0, 33, 42, 180, 0, 37, 183, 0, 40, 76, 43, 180, 0, 14, 42, 180, 0, 14]
abbrev dktX5_copy_0 : List UInt8 := dkwX5_copy_0 ++ dktX5_copy_1
theorem dksX5_copy_0 : cX5_copy.data.toList.drop 0 = dktX5_copy_0 := by decide +kernel
theorem dksX5_copy_1 : cX5_copy.data.toList.drop 24 = dktX5_copy_1 := dk_seg dksX5_copy_0 24 rfl rfl
theorem dX5_copy_0 : decode cX5_copy 0 = .ok (.new 15, 3) := dk_187 0 15 (dk_at dksX5_copy_0 0 rfl rfl)
theorem dX5_copy_3 : decode cX5_copy 3 = .ok (.dup, 1) := dk_89 (dk_at dksX5_copy_0 3 rfl rfl)
theorem dX5_copy_4 : decode cX5_copy 4 = .ok (.aload_n 0, 1) := dk_42 (dk_at dksX5_copy_0 4 rfl rfl)
theorem dX5_copy_5 : decode cX5_copy 5 = .ok (.getfield 33, 3) := dk_180 0 33 (dk_at dksX5_copy_0 5 rfl rfl)
theorem dX5_copy_8 : decode cX5_copy 8 = .ok (.aload_n 0, 1) := dk_42 (dk_at dksX5_copy_0 8 rfl rfl)
theorem dX5_copy_9 : decode cX5_copy 9 = .ok (.getfield 37, 3) := dk_180 0 37 (dk_at dksX5_copy_0 9 rfl rfl)
theorem dX5_copy_12 : decode cX5_copy 12 = .ok (.invokespecial 40, 3) := dk_183 0 40 (dk_at dksX5_copy_0 12 rfl rfl)
theorem dX5_copy_15 : decode cX5_copy 15 = .ok (.astore_n 1, 1) := dk_76 (dk_at dksX5_copy_0 15 rfl rfl)
theorem dX5_copy_16 : decode cX5_copy 16 = .ok (.aload_n 1, 1) := dk_43 (dk_at dksX5_copy_0 16 rfl rfl)
theorem dX5_copy_17 : decode cX5_copy 17 = .ok (.getfield 14, 3) := dk_180 0 14 (dk_at dksX5_copy_0 17 rfl rfl)
theorem dX5_copy_20 : decode cX5_copy 20 = .ok (.aload_n 0, 1) := dk_42 (dk_at dksX5_copy_0 20 rfl rfl)
theorem dX5_copy_21 : decode cX5_copy 21 = .ok (.getfield 14, 3) := dk_180 0 14 (dk_at dksX5_copy_0 21 rfl rfl)
theorem dX5_copy_24 : decode cX5_copy 24 = .ok (.invokevirtual 43, 3) := dk_182 0 43 (dk_at dksX5_copy_1 0 rfl rfl)
theorem dX5_copy_27 : decode cX5_copy 27 = .ok (.pop, 1) := dk_87 (dk_at dksX5_copy_1 3 rfl rfl)
theorem dX5_copy_28 : decode cX5_copy 28 = .ok (.aload_n 1, 1) := dk_43 (dk_at dksX5_copy_1 4 rfl rfl)
theorem dX5_copy_29 : decode cX5_copy 29 = .ok (.getfield 20, 3) := dk_180 0 20 (dk_at dksX5_copy_1 5 rfl rfl)
theorem dX5_copy_32 : decode cX5_copy 32 = .ok (.aload_n 0, 1) := dk_42 (dk_at dksX5_copy_1 8 rfl rfl)
theorem dX5_copy_33 : decode cX5_copy 33 = .ok (.getfield 20, 3) := dk_180 0 20 (dk_at dksX5_copy_1 9 rfl rfl)
theorem dX5_copy_36 : decode cX5_copy 36 = .ok (.invokevirtual 43, 3) := dk_182 0 43 (dk_at dksX5_copy_1 12 rfl rfl)
theorem dX5_copy_39 : decode cX5_copy 39 = .ok (.pop, 1) := dk_87 (dk_at dksX5_copy_1 15 rfl rfl)
theorem dX5_copy_40 : decode cX5_copy 40 = .ok (.aload_n 1, 1) := dk_43 (dk_at dksX5_copy_1 16 rfl rfl)
theorem dX5_copy_41 : decode cX5_copy 41 = .ok (.invokevirtual 47, 3) := dk_182 0 47 (dk_at dksX5_copy_1 17 rfl rfl)
theorem dX5_copy_44 : decode cX5_copy 44 = .ok (.aload_n 1, 1) := dk_43 (dk_at dksX5_copy_1 20 rfl rfl)
theorem dX5_copy_45 : decode cX5_copy 45 = .ok (.areturn, 1) := dk_176 (dk_at dksX5_copy_1 21 rfl rfl)
abbrev cX5_init : ByteArray := prog_6_method_1_code
def yX5_init : MethodName := ⟨RX5, "<init>", "(II)V"⟩
def dkwX5_init_2 : List UInt8 := [16, 120, 188, 10, 181, 0, 30, 42, 27, 181, 0, 33, 42, 28, 181, 0, 37, 177]
abbrev dktX5_init_2 : List UInt8 := dkwX5_init_2 ++ []
def dkwX5_init_1 : List UInt8 := [183, 0, 11, 181, 0, 20, 42, 16, 120, 188, 10, 181, 0, 23, 42, 16, 120, 188, 10, 181, 0, 27, 42]
abbrev dktX5_init_1 : List UInt8 := dkwX5_init_1 ++ dktX5_init_2
def dkwX5_init_0 : List UInt8 := [42, 183, 0, 3, 42, 187, 0, 9, 89, 16, 8, 183, 0, 11, 181, 0, 14, 42, 187, 0, 9, 89, 16, 8]
abbrev dktX5_init_0 : List UInt8 := dkwX5_init_0 ++ dktX5_init_1
theorem dksX5_init_0 : cX5_init.data.toList.drop 0 = dktX5_init_0 := by decide +kernel
theorem dksX5_init_1 : cX5_init.data.toList.drop 24 = dktX5_init_1 := dk_seg dksX5_init_0 24 rfl rfl
theorem dksX5_init_2 : cX5_init.data.toList.drop 47 = dktX5_init_2 := dk_seg dksX5_init_1 23 rfl rfl
theorem dX5_init_0 : decode cX5_init 0 = .ok (.aload_n 0, 1) := dk_42 (dk_at dksX5_init_0 0 rfl rfl)
theorem dX5_init_1 : decode cX5_init 1 = .ok (.invokespecial 3, 3) := dk_183 0 3 (dk_at dksX5_init_0 1 rfl rfl)
theorem dX5_init_4 : decode cX5_init 4 = .ok (.aload_n 0, 1) := dk_42 (dk_at dksX5_init_0 4 rfl rfl)
theorem dX5_init_5 : decode cX5_init 5 = .ok (.new 9, 3) := dk_187 0 9 (dk_at dksX5_init_0 5 rfl rfl)
theorem dX5_init_8 : decode cX5_init 8 = .ok (.dup, 1) := dk_89 (dk_at dksX5_init_0 8 rfl rfl)
theorem dX5_init_9 : decode cX5_init 9 = .ok (.bipush 8, 2) := dk_16 8 (dk_at dksX5_init_0 9 rfl rfl)
theorem dX5_init_11 : decode cX5_init 11 = .ok (.invokespecial 11, 3) := dk_183 0 11 (dk_at dksX5_init_0 11 rfl rfl)
theorem dX5_init_14 : decode cX5_init 14 = .ok (.putfield 14, 3) := dk_181 0 14 (dk_at dksX5_init_0 14 rfl rfl)
theorem dX5_init_17 : decode cX5_init 17 = .ok (.aload_n 0, 1) := dk_42 (dk_at dksX5_init_0 17 rfl rfl)
theorem dX5_init_18 : decode cX5_init 18 = .ok (.new 9, 3) := dk_187 0 9 (dk_at dksX5_init_0 18 rfl rfl)
theorem dX5_init_21 : decode cX5_init 21 = .ok (.dup, 1) := dk_89 (dk_at dksX5_init_0 21 rfl rfl)
theorem dX5_init_22 : decode cX5_init 22 = .ok (.bipush 8, 2) := dk_16 8 (dk_at dksX5_init_0 22 rfl rfl)
theorem dX5_init_24 : decode cX5_init 24 = .ok (.invokespecial 11, 3) := dk_183 0 11 (dk_at dksX5_init_1 0 rfl rfl)
theorem dX5_init_27 : decode cX5_init 27 = .ok (.putfield 20, 3) := dk_181 0 20 (dk_at dksX5_init_1 3 rfl rfl)
theorem dX5_init_30 : decode cX5_init 30 = .ok (.aload_n 0, 1) := dk_42 (dk_at dksX5_init_1 6 rfl rfl)
theorem dX5_init_31 : decode cX5_init 31 = .ok (.bipush 120, 2) := dk_16 120 (dk_at dksX5_init_1 7 rfl rfl)
theorem dX5_init_33 : decode cX5_init 33 = .ok (.newarray .int, 2) := dk_188_10 (dk_at dksX5_init_1 9 rfl rfl)
theorem dX5_init_35 : decode cX5_init 35 = .ok (.putfield 23, 3) := dk_181 0 23 (dk_at dksX5_init_1 11 rfl rfl)
theorem dX5_init_38 : decode cX5_init 38 = .ok (.aload_n 0, 1) := dk_42 (dk_at dksX5_init_1 14 rfl rfl)
theorem dX5_init_39 : decode cX5_init 39 = .ok (.bipush 120, 2) := dk_16 120 (dk_at dksX5_init_1 15 rfl rfl)
theorem dX5_init_41 : decode cX5_init 41 = .ok (.newarray .int, 2) := dk_188_10 (dk_at dksX5_init_1 17 rfl rfl)
theorem dX5_init_43 : decode cX5_init 43 = .ok (.putfield 27, 3) := dk_181 0 27 (dk_at dksX5_init_1 19 rfl rfl)
theorem dX5_init_46 : decode cX5_init 46 = .ok (.aload_n 0, 1) := dk_42 (dk_at dksX5_init_1 22 rfl rfl)
theorem dX5_init_47 : decode cX5_init 47 = .ok (.bipush 120, 2) := dk_16 120 (dk_at dksX5_init_2 0 rfl rfl)
theorem dX5_init_49 : decode cX5_init 49 = .ok (.newarray .int, 2) := dk_188_10 (dk_at dksX5_init_2 2 rfl rfl)
theorem dX5_init_51 : decode cX5_init 51 = .ok (.putfield 30, 3) := dk_181 0 30 (dk_at dksX5_init_2 4 rfl rfl)
theorem dX5_init_54 : decode cX5_init 54 = .ok (.aload_n 0, 1) := dk_42 (dk_at dksX5_init_2 7 rfl rfl)
theorem dX5_init_55 : decode cX5_init 55 = .ok (.iload_n 1, 1) := dk_27 (dk_at dksX5_init_2 8 rfl rfl)
theorem dX5_init_56 : decode cX5_init 56 = .ok (.putfield 33, 3) := dk_181 0 33 (dk_at dksX5_init_2 9 rfl rfl)
theorem dX5_init_59 : decode cX5_init 59 = .ok (.aload_n 0, 1) := dk_42 (dk_at dksX5_init_2 12 rfl rfl)
theorem dX5_init_60 : decode cX5_init 60 = .ok (.iload_n 2, 1) := dk_28 (dk_at dksX5_init_2 13 rfl rfl)
theorem dX5_init_61 : decode cX5_init 61 = .ok (.putfield 37, 3) := dk_181 0 37 (dk_at dksX5_init_2 14 rfl rfl)
theorem dX5_init_64 : decode cX5_init 64 = .ok (.return_, 1) := dk_177 (dk_at dksX5_init_2 17 rfl rfl)
abbrev cX5_lay : ByteArray := prog_6_method_6_code
def yX5_lay : MethodName := ⟨RX5, "lay", "()V"⟩
def dkwX5_lay_6 : List UInt8 := [21, 4, 96, 61, 132, 3, 1, 167, 255, 115, 177]
abbrev dktX5_lay_6 : List UInt8 := dkwX5_lay_6 ++ []
def dkwX5_lay_5 : List UInt8 := [153, 0, 7, 3, 167, 0, 13, 42, 180, 0, 30, 29, 4, 100, 46, 4, 96, 79, 42, 180, 0, 27, 29, 46]
abbrev dktX5_lay_5 : List UInt8 := dkwX5_lay_5 ++ dktX5_lay_6
def dkwX5_lay_4 : List UInt8 := [180, 0, 27, 29, 21, 5, 153, 0, 7, 3, 167, 0, 6, 28, 4, 96, 79, 42, 180, 0, 30, 29, 21, 5]
abbrev dktX5_lay_4 : List UInt8 := dkwX5_lay_4 ++ dktX5_lay_5
def dkwX5_lay_3 : List UInt8 := [54, 5, 27, 21, 5, 153, 0, 7, 4, 167, 0, 4, 3, 96, 60, 42, 180, 0, 23, 29, 27, 79, 42]
abbrev dktX5_lay_3 : List UInt8 := dkwX5_lay_3 ++ dktX5_lay_4
def dkwX5_lay_2 : List UInt8 := [182, 0, 74, 154, 0, 16, 28, 4, 96, 21, 4, 96, 42, 180, 0, 33, 164, 0, 7, 4, 167, 0, 4, 3]
abbrev dktX5_lay_2 : List UInt8 := dkwX5_lay_2 ++ dktX5_lay_3
def dkwX5_lay_1 : List UInt8 := [192, 0, 69, 182, 0, 71, 54, 4, 29, 153, 0, 33, 42, 180, 0, 20, 29, 182, 0, 65, 192, 0, 59]
abbrev dktX5_lay_1 : List UInt8 := dkwX5_lay_1 ++ dktX5_lay_2
def dkwX5_lay_0 : List UInt8 := [2, 60, 3, 61, 3, 62, 29, 42, 182, 0, 64, 162, 0, 139, 42, 180, 0, 14, 29, 182, 0, 65]
abbrev dktX5_lay_0 : List UInt8 := dkwX5_lay_0 ++ dktX5_lay_1
theorem dksX5_lay_0 : cX5_lay.data.toList.drop 0 = dktX5_lay_0 := by decide +kernel
theorem dksX5_lay_1 : cX5_lay.data.toList.drop 22 = dktX5_lay_1 := dk_seg dksX5_lay_0 22 rfl rfl
theorem dksX5_lay_2 : cX5_lay.data.toList.drop 45 = dktX5_lay_2 := dk_seg dksX5_lay_1 23 rfl rfl
theorem dksX5_lay_3 : cX5_lay.data.toList.drop 69 = dktX5_lay_3 := dk_seg dksX5_lay_2 24 rfl rfl
theorem dksX5_lay_4 : cX5_lay.data.toList.drop 92 = dktX5_lay_4 := dk_seg dksX5_lay_3 23 rfl rfl
theorem dksX5_lay_5 : cX5_lay.data.toList.drop 116 = dktX5_lay_5 := dk_seg dksX5_lay_4 24 rfl rfl
theorem dksX5_lay_6 : cX5_lay.data.toList.drop 140 = dktX5_lay_6 := dk_seg dksX5_lay_5 24 rfl rfl
theorem dX5_lay_0 : decode cX5_lay 0 = .ok (.iconst (-1), 1) := dk_2 (dk_at dksX5_lay_0 0 rfl rfl)
theorem dX5_lay_1 : decode cX5_lay 1 = .ok (.istore_n 1, 1) := dk_60 (dk_at dksX5_lay_0 1 rfl rfl)
theorem dX5_lay_2 : decode cX5_lay 2 = .ok (.iconst 0, 1) := dk_3 (dk_at dksX5_lay_0 2 rfl rfl)
theorem dX5_lay_3 : decode cX5_lay 3 = .ok (.istore_n 2, 1) := dk_61 (dk_at dksX5_lay_0 3 rfl rfl)
theorem dX5_lay_4 : decode cX5_lay 4 = .ok (.iconst 0, 1) := dk_3 (dk_at dksX5_lay_0 4 rfl rfl)
theorem dX5_lay_5 : decode cX5_lay 5 = .ok (.istore_n 3, 1) := dk_62 (dk_at dksX5_lay_0 5 rfl rfl)
theorem dX5_lay_6 : decode cX5_lay 6 = .ok (.iload_n 3, 1) := dk_29 (dk_at dksX5_lay_0 6 rfl rfl)
theorem dX5_lay_7 : decode cX5_lay 7 = .ok (.aload_n 0, 1) := dk_42 (dk_at dksX5_lay_0 7 rfl rfl)
theorem dX5_lay_8 : decode cX5_lay 8 = .ok (.invokevirtual 64, 3) := dk_182 0 64 (dk_at dksX5_lay_0 8 rfl rfl)
theorem dX5_lay_11 : decode cX5_lay 11 = .ok (.if_icmp .ge 139, 3) := dk_162 0 139 (dk_at dksX5_lay_0 11 rfl rfl)
theorem dX5_lay_14 : decode cX5_lay 14 = .ok (.aload_n 0, 1) := dk_42 (dk_at dksX5_lay_0 14 rfl rfl)
theorem dX5_lay_15 : decode cX5_lay 15 = .ok (.getfield 14, 3) := dk_180 0 14 (dk_at dksX5_lay_0 15 rfl rfl)
theorem dX5_lay_18 : decode cX5_lay 18 = .ok (.iload_n 3, 1) := dk_29 (dk_at dksX5_lay_0 18 rfl rfl)
theorem dX5_lay_19 : decode cX5_lay 19 = .ok (.invokevirtual 65, 3) := dk_182 0 65 (dk_at dksX5_lay_0 19 rfl rfl)
theorem dX5_lay_22 : decode cX5_lay 22 = .ok (.checkcast 69, 3) := dk_192 0 69 (dk_at dksX5_lay_1 0 rfl rfl)
theorem dX5_lay_25 : decode cX5_lay 25 = .ok (.invokevirtual 71, 3) := dk_182 0 71 (dk_at dksX5_lay_1 3 rfl rfl)
theorem dX5_lay_28 : decode cX5_lay 28 = .ok (.istore 4, 2) := dk_54 4 (dk_at dksX5_lay_1 6 rfl rfl)
theorem dX5_lay_30 : decode cX5_lay 30 = .ok (.iload_n 3, 1) := dk_29 (dk_at dksX5_lay_1 8 rfl rfl)
theorem dX5_lay_31 : decode cX5_lay 31 = .ok (.ifCond .eq 33, 3) := dk_153 0 33 (dk_at dksX5_lay_1 9 rfl rfl)
theorem dX5_lay_34 : decode cX5_lay 34 = .ok (.aload_n 0, 1) := dk_42 (dk_at dksX5_lay_1 12 rfl rfl)
theorem dX5_lay_35 : decode cX5_lay 35 = .ok (.getfield 20, 3) := dk_180 0 20 (dk_at dksX5_lay_1 13 rfl rfl)
theorem dX5_lay_38 : decode cX5_lay 38 = .ok (.iload_n 3, 1) := dk_29 (dk_at dksX5_lay_1 16 rfl rfl)
theorem dX5_lay_39 : decode cX5_lay 39 = .ok (.invokevirtual 65, 3) := dk_182 0 65 (dk_at dksX5_lay_1 17 rfl rfl)
theorem dX5_lay_42 : decode cX5_lay 42 = .ok (.checkcast 59, 3) := dk_192 0 59 (dk_at dksX5_lay_1 20 rfl rfl)
theorem dX5_lay_45 : decode cX5_lay 45 = .ok (.invokevirtual 74, 3) := dk_182 0 74 (dk_at dksX5_lay_2 0 rfl rfl)
theorem dX5_lay_48 : decode cX5_lay 48 = .ok (.ifCond .ne 16, 3) := dk_154 0 16 (dk_at dksX5_lay_2 3 rfl rfl)
theorem dX5_lay_51 : decode cX5_lay 51 = .ok (.iload_n 2, 1) := dk_28 (dk_at dksX5_lay_2 6 rfl rfl)
theorem dX5_lay_52 : decode cX5_lay 52 = .ok (.iconst 1, 1) := dk_4 (dk_at dksX5_lay_2 7 rfl rfl)
theorem dX5_lay_53 : decode cX5_lay 53 = .ok (.iadd, 1) := dk_96 (dk_at dksX5_lay_2 8 rfl rfl)
theorem dX5_lay_54 : decode cX5_lay 54 = .ok (.iload 4, 2) := dk_21 4 (dk_at dksX5_lay_2 9 rfl rfl)
theorem dX5_lay_56 : decode cX5_lay 56 = .ok (.iadd, 1) := dk_96 (dk_at dksX5_lay_2 11 rfl rfl)
theorem dX5_lay_57 : decode cX5_lay 57 = .ok (.aload_n 0, 1) := dk_42 (dk_at dksX5_lay_2 12 rfl rfl)
theorem dX5_lay_58 : decode cX5_lay 58 = .ok (.getfield 33, 3) := dk_180 0 33 (dk_at dksX5_lay_2 13 rfl rfl)
theorem dX5_lay_61 : decode cX5_lay 61 = .ok (.if_icmp .le 7, 3) := dk_164 0 7 (dk_at dksX5_lay_2 16 rfl rfl)
theorem dX5_lay_64 : decode cX5_lay 64 = .ok (.iconst 1, 1) := dk_4 (dk_at dksX5_lay_2 19 rfl rfl)
theorem dX5_lay_65 : decode cX5_lay 65 = .ok (.goto 4, 3) := dk_167 0 4 (dk_at dksX5_lay_2 20 rfl rfl)
theorem dX5_lay_68 : decode cX5_lay 68 = .ok (.iconst 0, 1) := dk_3 (dk_at dksX5_lay_2 23 rfl rfl)
theorem dX5_lay_69 : decode cX5_lay 69 = .ok (.istore 5, 2) := dk_54 5 (dk_at dksX5_lay_3 0 rfl rfl)
theorem dX5_lay_71 : decode cX5_lay 71 = .ok (.iload_n 1, 1) := dk_27 (dk_at dksX5_lay_3 2 rfl rfl)
theorem dX5_lay_72 : decode cX5_lay 72 = .ok (.iload 5, 2) := dk_21 5 (dk_at dksX5_lay_3 3 rfl rfl)
theorem dX5_lay_74 : decode cX5_lay 74 = .ok (.ifCond .eq 7, 3) := dk_153 0 7 (dk_at dksX5_lay_3 5 rfl rfl)
theorem dX5_lay_77 : decode cX5_lay 77 = .ok (.iconst 1, 1) := dk_4 (dk_at dksX5_lay_3 8 rfl rfl)
theorem dX5_lay_78 : decode cX5_lay 78 = .ok (.goto 4, 3) := dk_167 0 4 (dk_at dksX5_lay_3 9 rfl rfl)
theorem dX5_lay_81 : decode cX5_lay 81 = .ok (.iconst 0, 1) := dk_3 (dk_at dksX5_lay_3 12 rfl rfl)
theorem dX5_lay_82 : decode cX5_lay 82 = .ok (.iadd, 1) := dk_96 (dk_at dksX5_lay_3 13 rfl rfl)
theorem dX5_lay_83 : decode cX5_lay 83 = .ok (.istore_n 1, 1) := dk_60 (dk_at dksX5_lay_3 14 rfl rfl)
theorem dX5_lay_84 : decode cX5_lay 84 = .ok (.aload_n 0, 1) := dk_42 (dk_at dksX5_lay_3 15 rfl rfl)
theorem dX5_lay_85 : decode cX5_lay 85 = .ok (.getfield 23, 3) := dk_180 0 23 (dk_at dksX5_lay_3 16 rfl rfl)
theorem dX5_lay_88 : decode cX5_lay 88 = .ok (.iload_n 3, 1) := dk_29 (dk_at dksX5_lay_3 19 rfl rfl)
theorem dX5_lay_89 : decode cX5_lay 89 = .ok (.iload_n 1, 1) := dk_27 (dk_at dksX5_lay_3 20 rfl rfl)
theorem dX5_lay_90 : decode cX5_lay 90 = .ok (.iastore, 1) := dk_79 (dk_at dksX5_lay_3 21 rfl rfl)
theorem dX5_lay_91 : decode cX5_lay 91 = .ok (.aload_n 0, 1) := dk_42 (dk_at dksX5_lay_3 22 rfl rfl)
theorem dX5_lay_92 : decode cX5_lay 92 = .ok (.getfield 27, 3) := dk_180 0 27 (dk_at dksX5_lay_4 0 rfl rfl)
theorem dX5_lay_95 : decode cX5_lay 95 = .ok (.iload_n 3, 1) := dk_29 (dk_at dksX5_lay_4 3 rfl rfl)
theorem dX5_lay_96 : decode cX5_lay 96 = .ok (.iload 5, 2) := dk_21 5 (dk_at dksX5_lay_4 4 rfl rfl)
theorem dX5_lay_98 : decode cX5_lay 98 = .ok (.ifCond .eq 7, 3) := dk_153 0 7 (dk_at dksX5_lay_4 6 rfl rfl)
theorem dX5_lay_101 : decode cX5_lay 101 = .ok (.iconst 0, 1) := dk_3 (dk_at dksX5_lay_4 9 rfl rfl)
theorem dX5_lay_102 : decode cX5_lay 102 = .ok (.goto 6, 3) := dk_167 0 6 (dk_at dksX5_lay_4 10 rfl rfl)
theorem dX5_lay_105 : decode cX5_lay 105 = .ok (.iload_n 2, 1) := dk_28 (dk_at dksX5_lay_4 13 rfl rfl)
theorem dX5_lay_106 : decode cX5_lay 106 = .ok (.iconst 1, 1) := dk_4 (dk_at dksX5_lay_4 14 rfl rfl)
theorem dX5_lay_107 : decode cX5_lay 107 = .ok (.iadd, 1) := dk_96 (dk_at dksX5_lay_4 15 rfl rfl)
theorem dX5_lay_108 : decode cX5_lay 108 = .ok (.iastore, 1) := dk_79 (dk_at dksX5_lay_4 16 rfl rfl)
theorem dX5_lay_109 : decode cX5_lay 109 = .ok (.aload_n 0, 1) := dk_42 (dk_at dksX5_lay_4 17 rfl rfl)
theorem dX5_lay_110 : decode cX5_lay 110 = .ok (.getfield 30, 3) := dk_180 0 30 (dk_at dksX5_lay_4 18 rfl rfl)
theorem dX5_lay_113 : decode cX5_lay 113 = .ok (.iload_n 3, 1) := dk_29 (dk_at dksX5_lay_4 21 rfl rfl)
theorem dX5_lay_114 : decode cX5_lay 114 = .ok (.iload 5, 2) := dk_21 5 (dk_at dksX5_lay_4 22 rfl rfl)
theorem dX5_lay_116 : decode cX5_lay 116 = .ok (.ifCond .eq 7, 3) := dk_153 0 7 (dk_at dksX5_lay_5 0 rfl rfl)
theorem dX5_lay_119 : decode cX5_lay 119 = .ok (.iconst 0, 1) := dk_3 (dk_at dksX5_lay_5 3 rfl rfl)
theorem dX5_lay_120 : decode cX5_lay 120 = .ok (.goto 13, 3) := dk_167 0 13 (dk_at dksX5_lay_5 4 rfl rfl)
theorem dX5_lay_123 : decode cX5_lay 123 = .ok (.aload_n 0, 1) := dk_42 (dk_at dksX5_lay_5 7 rfl rfl)
theorem dX5_lay_124 : decode cX5_lay 124 = .ok (.getfield 30, 3) := dk_180 0 30 (dk_at dksX5_lay_5 8 rfl rfl)
theorem dX5_lay_127 : decode cX5_lay 127 = .ok (.iload_n 3, 1) := dk_29 (dk_at dksX5_lay_5 11 rfl rfl)
theorem dX5_lay_128 : decode cX5_lay 128 = .ok (.iconst 1, 1) := dk_4 (dk_at dksX5_lay_5 12 rfl rfl)
theorem dX5_lay_129 : decode cX5_lay 129 = .ok (.isub, 1) := dk_100 (dk_at dksX5_lay_5 13 rfl rfl)
theorem dX5_lay_130 : decode cX5_lay 130 = .ok (.iaload, 1) := dk_46 (dk_at dksX5_lay_5 14 rfl rfl)
theorem dX5_lay_131 : decode cX5_lay 131 = .ok (.iconst 1, 1) := dk_4 (dk_at dksX5_lay_5 15 rfl rfl)
theorem dX5_lay_132 : decode cX5_lay 132 = .ok (.iadd, 1) := dk_96 (dk_at dksX5_lay_5 16 rfl rfl)
theorem dX5_lay_133 : decode cX5_lay 133 = .ok (.iastore, 1) := dk_79 (dk_at dksX5_lay_5 17 rfl rfl)
theorem dX5_lay_134 : decode cX5_lay 134 = .ok (.aload_n 0, 1) := dk_42 (dk_at dksX5_lay_5 18 rfl rfl)
theorem dX5_lay_135 : decode cX5_lay 135 = .ok (.getfield 27, 3) := dk_180 0 27 (dk_at dksX5_lay_5 19 rfl rfl)
theorem dX5_lay_138 : decode cX5_lay 138 = .ok (.iload_n 3, 1) := dk_29 (dk_at dksX5_lay_5 22 rfl rfl)
theorem dX5_lay_139 : decode cX5_lay 139 = .ok (.iaload, 1) := dk_46 (dk_at dksX5_lay_5 23 rfl rfl)
theorem dX5_lay_140 : decode cX5_lay 140 = .ok (.iload 4, 2) := dk_21 4 (dk_at dksX5_lay_6 0 rfl rfl)
theorem dX5_lay_142 : decode cX5_lay 142 = .ok (.iadd, 1) := dk_96 (dk_at dksX5_lay_6 2 rfl rfl)
theorem dX5_lay_143 : decode cX5_lay 143 = .ok (.istore_n 2, 1) := dk_61 (dk_at dksX5_lay_6 3 rfl rfl)
theorem dX5_lay_144 : decode cX5_lay 144 = .ok (.iinc 3 1, 3) := dk_132 3 1 (dk_at dksX5_lay_6 4 rfl rfl)
theorem dX5_lay_147 : decode cX5_lay 147 = .ok (.goto (-141), 3) := dk_167 255 115 (dk_at dksX5_lay_6 7 rfl rfl)
theorem dX5_lay_150 : decode cX5_lay 150 = .ok (.return_, 1) := dk_177 (dk_at dksX5_lay_6 10 rfl rfl)
abbrev cX5_add : ByteArray := prog_6_method_5_code
def yX5_add : MethodName := ⟨RX5, "add", "(Ljava/lang/String;Z)V"⟩
def dkwX5_add_0 : List UInt8 := [42, 180, 0, 14, 43, 182, 0, 54, 87, 42, 180, 0, 20, 28, 184, 0, 58, 182, 0, 54, 87, 177]
abbrev dktX5_add_0 : List UInt8 := dkwX5_add_0 ++ []
theorem dksX5_add_0 : cX5_add.data.toList.drop 0 = dktX5_add_0 := by decide +kernel
theorem dX5_add_0 : decode cX5_add 0 = .ok (.aload_n 0, 1) := dk_42 (dk_at dksX5_add_0 0 rfl rfl)
theorem dX5_add_1 : decode cX5_add 1 = .ok (.getfield 14, 3) := dk_180 0 14 (dk_at dksX5_add_0 1 rfl rfl)
theorem dX5_add_4 : decode cX5_add 4 = .ok (.aload_n 1, 1) := dk_43 (dk_at dksX5_add_0 4 rfl rfl)
theorem dX5_add_5 : decode cX5_add 5 = .ok (.invokevirtual 54, 3) := dk_182 0 54 (dk_at dksX5_add_0 5 rfl rfl)
theorem dX5_add_8 : decode cX5_add 8 = .ok (.pop, 1) := dk_87 (dk_at dksX5_add_0 8 rfl rfl)
theorem dX5_add_9 : decode cX5_add 9 = .ok (.aload_n 0, 1) := dk_42 (dk_at dksX5_add_0 9 rfl rfl)
theorem dX5_add_10 : decode cX5_add 10 = .ok (.getfield 20, 3) := dk_180 0 20 (dk_at dksX5_add_0 10 rfl rfl)
theorem dX5_add_13 : decode cX5_add 13 = .ok (.iload_n 2, 1) := dk_28 (dk_at dksX5_add_0 13 rfl rfl)
theorem dX5_add_14 : decode cX5_add 14 = .ok (.invokestatic 58, 3) := dk_184 0 58 (dk_at dksX5_add_0 14 rfl rfl)
theorem dX5_add_17 : decode cX5_add 17 = .ok (.invokevirtual 54, 3) := dk_182 0 54 (dk_at dksX5_add_0 17 rfl rfl)
theorem dX5_add_20 : decode cX5_add 20 = .ok (.pop, 1) := dk_87 (dk_at dksX5_add_0 20 rfl rfl)
theorem dX5_add_21 : decode cX5_add 21 = .ok (.return_, 1) := dk_177 (dk_at dksX5_add_0 21 rfl rfl)
abbrev cX5_find : ByteArray := prog_6_method_11_code
def yX5_find : MethodName := ⟨RX5, "find", "(Ljava/util/ArrayList;)I"⟩
def dkwX5_find_3 : List UInt8 := [132, 2, 1, 167, 255, 186, 2, 172]
abbrev dktX5_find_3 : List UInt8 := dkwX5_find_3 ++ []
def dkwX5_find_2 : List UInt8 := [43, 21, 4, 182, 0, 65, 182, 0, 88, 62, 132, 4, 1, 167, 255, 216, 29, 153, 0, 5, 28, 172]
abbrev dktX5_find_2 : List UInt8 := dkwX5_find_2 ++ dktX5_find_3
def dkwX5_find_1 : List UInt8 := [182, 0, 50, 162, 0, 37, 29, 153, 0, 33, 42, 180, 0, 14, 28, 21, 4, 96, 182, 0, 65, 192, 0, 69]
abbrev dktX5_find_1 : List UInt8 := dkwX5_find_1 ++ dktX5_find_2
def dkwX5_find_0 : List UInt8 := [3, 61, 28, 43, 182, 0, 50, 96, 42, 182, 0, 64, 163, 0, 63, 4, 62, 3, 54, 4, 21, 4, 43]
abbrev dktX5_find_0 : List UInt8 := dkwX5_find_0 ++ dktX5_find_1
theorem dksX5_find_0 : cX5_find.data.toList.drop 0 = dktX5_find_0 := by decide +kernel
theorem dksX5_find_1 : cX5_find.data.toList.drop 23 = dktX5_find_1 := dk_seg dksX5_find_0 23 rfl rfl
theorem dksX5_find_2 : cX5_find.data.toList.drop 47 = dktX5_find_2 := dk_seg dksX5_find_1 24 rfl rfl
theorem dksX5_find_3 : cX5_find.data.toList.drop 69 = dktX5_find_3 := dk_seg dksX5_find_2 22 rfl rfl
theorem dX5_find_0 : decode cX5_find 0 = .ok (.iconst 0, 1) := dk_3 (dk_at dksX5_find_0 0 rfl rfl)
theorem dX5_find_1 : decode cX5_find 1 = .ok (.istore_n 2, 1) := dk_61 (dk_at dksX5_find_0 1 rfl rfl)
theorem dX5_find_2 : decode cX5_find 2 = .ok (.iload_n 2, 1) := dk_28 (dk_at dksX5_find_0 2 rfl rfl)
theorem dX5_find_3 : decode cX5_find 3 = .ok (.aload_n 1, 1) := dk_43 (dk_at dksX5_find_0 3 rfl rfl)
theorem dX5_find_4 : decode cX5_find 4 = .ok (.invokevirtual 50, 3) := dk_182 0 50 (dk_at dksX5_find_0 4 rfl rfl)
theorem dX5_find_7 : decode cX5_find 7 = .ok (.iadd, 1) := dk_96 (dk_at dksX5_find_0 7 rfl rfl)
theorem dX5_find_8 : decode cX5_find 8 = .ok (.aload_n 0, 1) := dk_42 (dk_at dksX5_find_0 8 rfl rfl)
theorem dX5_find_9 : decode cX5_find 9 = .ok (.invokevirtual 64, 3) := dk_182 0 64 (dk_at dksX5_find_0 9 rfl rfl)
theorem dX5_find_12 : decode cX5_find 12 = .ok (.if_icmp .gt 63, 3) := dk_163 0 63 (dk_at dksX5_find_0 12 rfl rfl)
theorem dX5_find_15 : decode cX5_find 15 = .ok (.iconst 1, 1) := dk_4 (dk_at dksX5_find_0 15 rfl rfl)
theorem dX5_find_16 : decode cX5_find 16 = .ok (.istore_n 3, 1) := dk_62 (dk_at dksX5_find_0 16 rfl rfl)
theorem dX5_find_17 : decode cX5_find 17 = .ok (.iconst 0, 1) := dk_3 (dk_at dksX5_find_0 17 rfl rfl)
theorem dX5_find_18 : decode cX5_find 18 = .ok (.istore 4, 2) := dk_54 4 (dk_at dksX5_find_0 18 rfl rfl)
theorem dX5_find_20 : decode cX5_find 20 = .ok (.iload 4, 2) := dk_21 4 (dk_at dksX5_find_0 20 rfl rfl)
theorem dX5_find_22 : decode cX5_find 22 = .ok (.aload_n 1, 1) := dk_43 (dk_at dksX5_find_0 22 rfl rfl)
theorem dX5_find_23 : decode cX5_find 23 = .ok (.invokevirtual 50, 3) := dk_182 0 50 (dk_at dksX5_find_1 0 rfl rfl)
theorem dX5_find_26 : decode cX5_find 26 = .ok (.if_icmp .ge 37, 3) := dk_162 0 37 (dk_at dksX5_find_1 3 rfl rfl)
theorem dX5_find_29 : decode cX5_find 29 = .ok (.iload_n 3, 1) := dk_29 (dk_at dksX5_find_1 6 rfl rfl)
theorem dX5_find_30 : decode cX5_find 30 = .ok (.ifCond .eq 33, 3) := dk_153 0 33 (dk_at dksX5_find_1 7 rfl rfl)
theorem dX5_find_33 : decode cX5_find 33 = .ok (.aload_n 0, 1) := dk_42 (dk_at dksX5_find_1 10 rfl rfl)
theorem dX5_find_34 : decode cX5_find 34 = .ok (.getfield 14, 3) := dk_180 0 14 (dk_at dksX5_find_1 11 rfl rfl)
theorem dX5_find_37 : decode cX5_find 37 = .ok (.iload_n 2, 1) := dk_28 (dk_at dksX5_find_1 14 rfl rfl)
theorem dX5_find_38 : decode cX5_find 38 = .ok (.iload 4, 2) := dk_21 4 (dk_at dksX5_find_1 15 rfl rfl)
theorem dX5_find_40 : decode cX5_find 40 = .ok (.iadd, 1) := dk_96 (dk_at dksX5_find_1 17 rfl rfl)
theorem dX5_find_41 : decode cX5_find 41 = .ok (.invokevirtual 65, 3) := dk_182 0 65 (dk_at dksX5_find_1 18 rfl rfl)
theorem dX5_find_44 : decode cX5_find 44 = .ok (.checkcast 69, 3) := dk_192 0 69 (dk_at dksX5_find_1 21 rfl rfl)
theorem dX5_find_47 : decode cX5_find 47 = .ok (.aload_n 1, 1) := dk_43 (dk_at dksX5_find_2 0 rfl rfl)
theorem dX5_find_48 : decode cX5_find 48 = .ok (.iload 4, 2) := dk_21 4 (dk_at dksX5_find_2 1 rfl rfl)
theorem dX5_find_50 : decode cX5_find 50 = .ok (.invokevirtual 65, 3) := dk_182 0 65 (dk_at dksX5_find_2 3 rfl rfl)
theorem dX5_find_53 : decode cX5_find 53 = .ok (.invokevirtual 88, 3) := dk_182 0 88 (dk_at dksX5_find_2 6 rfl rfl)
theorem dX5_find_56 : decode cX5_find 56 = .ok (.istore_n 3, 1) := dk_62 (dk_at dksX5_find_2 9 rfl rfl)
theorem dX5_find_57 : decode cX5_find 57 = .ok (.iinc 4 1, 3) := dk_132 4 1 (dk_at dksX5_find_2 10 rfl rfl)
theorem dX5_find_60 : decode cX5_find 60 = .ok (.goto (-40), 3) := dk_167 255 216 (dk_at dksX5_find_2 13 rfl rfl)
theorem dX5_find_63 : decode cX5_find 63 = .ok (.iload_n 3, 1) := dk_29 (dk_at dksX5_find_2 16 rfl rfl)
theorem dX5_find_64 : decode cX5_find 64 = .ok (.ifCond .eq 5, 3) := dk_153 0 5 (dk_at dksX5_find_2 17 rfl rfl)
theorem dX5_find_67 : decode cX5_find 67 = .ok (.iload_n 2, 1) := dk_28 (dk_at dksX5_find_2 20 rfl rfl)
theorem dX5_find_68 : decode cX5_find 68 = .ok (.ireturn, 1) := dk_172 (dk_at dksX5_find_2 21 rfl rfl)
theorem dX5_find_69 : decode cX5_find 69 = .ok (.iinc 2 1, 3) := dk_132 2 1 (dk_at dksX5_find_3 0 rfl rfl)
theorem dX5_find_72 : decode cX5_find 72 = .ok (.goto (-70), 3) := dk_167 255 186 (dk_at dksX5_find_3 3 rfl rfl)
theorem dX5_find_75 : decode cX5_find 75 = .ok (.iconst (-1), 1) := dk_2 (dk_at dksX5_find_3 6 rfl rfl)
theorem dX5_find_76 : decode cX5_find 76 = .ok (.ireturn, 1) := dk_172 (dk_at dksX5_find_3 7 rfl rfl)
abbrev cX5_find_2 : ByteArray := prog_6_method_10_code
def yX5_find_2 : MethodName := ⟨RX5, "find", "(III)I"⟩
def dkwX5_find_2_3 : List UInt8 := [132, 5, 1, 167, 255, 190, 21, 4, 172]
abbrev dktX5_find_2_3 : List UInt8 := dkwX5_find_2_3 ++ []
def dkwX5_find_2_2 : List UInt8 := [160, 0, 19, 42, 180, 0, 30, 21, 5, 46, 29, 160, 0, 8, 21, 5, 167, 0, 5, 21, 4, 54, 4]
abbrev dktX5_find_2_2 : List UInt8 := dkwX5_find_2_2 ++ dktX5_find_2_3
def dkwX5_find_2_1 : List UInt8 := [133, 184, 0, 84, 153, 0, 37, 42, 180, 0, 23, 21, 5, 46, 42, 180, 0, 37, 27, 104, 28, 96]
abbrev dktX5_find_2_1 : List UInt8 := dkwX5_find_2_1 ++ dktX5_find_2_2
def dkwX5_find_2_0 : List UInt8 := [2, 54, 4, 3, 54, 5, 21, 5, 42, 182, 0, 64, 162, 0, 63, 28, 133, 9, 42, 180, 0, 37, 4, 100]
abbrev dktX5_find_2_0 : List UInt8 := dkwX5_find_2_0 ++ dktX5_find_2_1
theorem dksX5_find_2_0 : cX5_find_2.data.toList.drop 0 = dktX5_find_2_0 := by decide +kernel
theorem dksX5_find_2_1 : cX5_find_2.data.toList.drop 24 = dktX5_find_2_1 := dk_seg dksX5_find_2_0 24 rfl rfl
theorem dksX5_find_2_2 : cX5_find_2.data.toList.drop 46 = dktX5_find_2_2 := dk_seg dksX5_find_2_1 22 rfl rfl
theorem dksX5_find_2_3 : cX5_find_2.data.toList.drop 69 = dktX5_find_2_3 := dk_seg dksX5_find_2_2 23 rfl rfl
theorem dX5_find_2_0 : decode cX5_find_2 0 = .ok (.iconst (-1), 1) := dk_2 (dk_at dksX5_find_2_0 0 rfl rfl)
theorem dX5_find_2_1 : decode cX5_find_2 1 = .ok (.istore 4, 2) := dk_54 4 (dk_at dksX5_find_2_0 1 rfl rfl)
theorem dX5_find_2_3 : decode cX5_find_2 3 = .ok (.iconst 0, 1) := dk_3 (dk_at dksX5_find_2_0 3 rfl rfl)
theorem dX5_find_2_4 : decode cX5_find_2 4 = .ok (.istore 5, 2) := dk_54 5 (dk_at dksX5_find_2_0 4 rfl rfl)
theorem dX5_find_2_6 : decode cX5_find_2 6 = .ok (.iload 5, 2) := dk_21 5 (dk_at dksX5_find_2_0 6 rfl rfl)
theorem dX5_find_2_8 : decode cX5_find_2 8 = .ok (.aload_n 0, 1) := dk_42 (dk_at dksX5_find_2_0 8 rfl rfl)
theorem dX5_find_2_9 : decode cX5_find_2 9 = .ok (.invokevirtual 64, 3) := dk_182 0 64 (dk_at dksX5_find_2_0 9 rfl rfl)
theorem dX5_find_2_12 : decode cX5_find_2 12 = .ok (.if_icmp .ge 63, 3) := dk_162 0 63 (dk_at dksX5_find_2_0 12 rfl rfl)
theorem dX5_find_2_15 : decode cX5_find_2 15 = .ok (.iload_n 2, 1) := dk_28 (dk_at dksX5_find_2_0 15 rfl rfl)
theorem dX5_find_2_16 : decode cX5_find_2 16 = .ok (.i2l, 1) := dk_133 (dk_at dksX5_find_2_0 16 rfl rfl)
theorem dX5_find_2_17 : decode cX5_find_2 17 = .ok (.lconst 0, 1) := dk_9 (dk_at dksX5_find_2_0 17 rfl rfl)
theorem dX5_find_2_18 : decode cX5_find_2 18 = .ok (.aload_n 0, 1) := dk_42 (dk_at dksX5_find_2_0 18 rfl rfl)
theorem dX5_find_2_19 : decode cX5_find_2 19 = .ok (.getfield 37, 3) := dk_180 0 37 (dk_at dksX5_find_2_0 19 rfl rfl)
theorem dX5_find_2_22 : decode cX5_find_2 22 = .ok (.iconst 1, 1) := dk_4 (dk_at dksX5_find_2_0 22 rfl rfl)
theorem dX5_find_2_23 : decode cX5_find_2 23 = .ok (.isub, 1) := dk_100 (dk_at dksX5_find_2_0 23 rfl rfl)
theorem dX5_find_2_24 : decode cX5_find_2 24 = .ok (.i2l, 1) := dk_133 (dk_at dksX5_find_2_1 0 rfl rfl)
theorem dX5_find_2_25 : decode cX5_find_2 25 = .ok (.invokestatic 84, 3) := dk_184 0 84 (dk_at dksX5_find_2_1 1 rfl rfl)
theorem dX5_find_2_28 : decode cX5_find_2 28 = .ok (.ifCond .eq 37, 3) := dk_153 0 37 (dk_at dksX5_find_2_1 4 rfl rfl)
theorem dX5_find_2_31 : decode cX5_find_2 31 = .ok (.aload_n 0, 1) := dk_42 (dk_at dksX5_find_2_1 7 rfl rfl)
theorem dX5_find_2_32 : decode cX5_find_2 32 = .ok (.getfield 23, 3) := dk_180 0 23 (dk_at dksX5_find_2_1 8 rfl rfl)
theorem dX5_find_2_35 : decode cX5_find_2 35 = .ok (.iload 5, 2) := dk_21 5 (dk_at dksX5_find_2_1 11 rfl rfl)
theorem dX5_find_2_37 : decode cX5_find_2 37 = .ok (.iaload, 1) := dk_46 (dk_at dksX5_find_2_1 13 rfl rfl)
theorem dX5_find_2_38 : decode cX5_find_2 38 = .ok (.aload_n 0, 1) := dk_42 (dk_at dksX5_find_2_1 14 rfl rfl)
theorem dX5_find_2_39 : decode cX5_find_2 39 = .ok (.getfield 37, 3) := dk_180 0 37 (dk_at dksX5_find_2_1 15 rfl rfl)
theorem dX5_find_2_42 : decode cX5_find_2 42 = .ok (.iload_n 1, 1) := dk_27 (dk_at dksX5_find_2_1 18 rfl rfl)
theorem dX5_find_2_43 : decode cX5_find_2 43 = .ok (.imul, 1) := dk_104 (dk_at dksX5_find_2_1 19 rfl rfl)
theorem dX5_find_2_44 : decode cX5_find_2 44 = .ok (.iload_n 2, 1) := dk_28 (dk_at dksX5_find_2_1 20 rfl rfl)
theorem dX5_find_2_45 : decode cX5_find_2 45 = .ok (.iadd, 1) := dk_96 (dk_at dksX5_find_2_1 21 rfl rfl)
theorem dX5_find_2_46 : decode cX5_find_2 46 = .ok (.if_icmp .ne 19, 3) := dk_160 0 19 (dk_at dksX5_find_2_2 0 rfl rfl)
theorem dX5_find_2_49 : decode cX5_find_2 49 = .ok (.aload_n 0, 1) := dk_42 (dk_at dksX5_find_2_2 3 rfl rfl)
theorem dX5_find_2_50 : decode cX5_find_2 50 = .ok (.getfield 30, 3) := dk_180 0 30 (dk_at dksX5_find_2_2 4 rfl rfl)
theorem dX5_find_2_53 : decode cX5_find_2 53 = .ok (.iload 5, 2) := dk_21 5 (dk_at dksX5_find_2_2 7 rfl rfl)
theorem dX5_find_2_55 : decode cX5_find_2 55 = .ok (.iaload, 1) := dk_46 (dk_at dksX5_find_2_2 9 rfl rfl)
theorem dX5_find_2_56 : decode cX5_find_2 56 = .ok (.iload_n 3, 1) := dk_29 (dk_at dksX5_find_2_2 10 rfl rfl)
theorem dX5_find_2_57 : decode cX5_find_2 57 = .ok (.if_icmp .ne 8, 3) := dk_160 0 8 (dk_at dksX5_find_2_2 11 rfl rfl)
theorem dX5_find_2_60 : decode cX5_find_2 60 = .ok (.iload 5, 2) := dk_21 5 (dk_at dksX5_find_2_2 14 rfl rfl)
theorem dX5_find_2_62 : decode cX5_find_2 62 = .ok (.goto 5, 3) := dk_167 0 5 (dk_at dksX5_find_2_2 16 rfl rfl)
theorem dX5_find_2_65 : decode cX5_find_2 65 = .ok (.iload 4, 2) := dk_21 4 (dk_at dksX5_find_2_2 19 rfl rfl)
theorem dX5_find_2_67 : decode cX5_find_2 67 = .ok (.istore 4, 2) := dk_54 4 (dk_at dksX5_find_2_2 21 rfl rfl)
theorem dX5_find_2_69 : decode cX5_find_2 69 = .ok (.iinc 5 1, 3) := dk_132 5 1 (dk_at dksX5_find_2_3 0 rfl rfl)
theorem dX5_find_2_72 : decode cX5_find_2 72 = .ok (.goto (-66), 3) := dk_167 255 190 (dk_at dksX5_find_2_3 3 rfl rfl)
theorem dX5_find_2_75 : decode cX5_find_2 75 = .ok (.iload 4, 2) := dk_21 4 (dk_at dksX5_find_2_3 6 rfl rfl)
theorem dX5_find_2_77 : decode cX5_find_2 77 = .ok (.ireturn, 1) := dk_172 (dk_at dksX5_find_2_3 8 rfl rfl)
theorem q149 : (Jvm.Cond.initialized "NoteImporter$Edition") ∈ lw_all := lw_g (lw_at lw_m1 30 rfl) rfl
theorem q706 : (Jvm.Cond.instanceMethod ({ cls := "NoteImporter$Edition", name := "size", desc := "()I" } : Jvm.MethodName)) ∈ lw_all := lw_g (lw_at lw_m3 107 rfl) rfl
theorem q707 : (Jvm.Cond.selects "NoteImporter$Edition" ({ cls := "NoteImporter$Edition", name := "size", desc := "()I" } : Jvm.MethodName) ({ cls := "NoteImporter$Edition", name := "size", desc := "()I" } : Jvm.MethodName)) ∈ lw_all := lw_g (lw_at lw_m3 108 rfl) rfl
theorem q708 : (Jvm.Cond.code ({ cls := "NoteImporter$Edition", name := "size", desc := "()I" } : Jvm.MethodName) prog_6_method_3_code (1 : Nat) (Option.some Jvm.ClassFile.FieldType.int)) ∈ lw_all := lw_g (lw_at lw_m3 109 rfl) rfl
theorem q709 : (Jvm.Cond.methodLink "NoteImporter$Edition" (50 : Nat) ({ cls := "java/util/ArrayList", name := "size", desc := "()I" } : Jvm.MethodName)) ∈ lw_all := lw_g (lw_at lw_m3 110 rfl) rfl
theorem q849 : (Jvm.Cond.selects "NoteImporter$Edition" ({ cls := "java/lang/Object", name := "getClass", desc := "()Ljava/lang/Class;" } : Jvm.MethodName) ({ cls := "java/lang/Object", name := "getClass", desc := "()Ljava/lang/Class;" } : Jvm.MethodName)) ∈ lw_all := lw_g (lw_at lw_m4 10 rfl) rfl
theorem q1184 : (Jvm.Cond.selects "NoteImporter$Edition" ({ cls := "java/lang/Object", name := "hashCode", desc := "()I" } : Jvm.MethodName) ({ cls := "java/lang/Object", name := "hashCode", desc := "()I" } : Jvm.MethodName)) ∈ lw_all := lw_g (lw_at lw_m5 105 rfl) rfl
theorem q1289 : (Jvm.Cond.selects "NoteImporter$Edition" ({ cls := "java/lang/Object", name := "equals", desc := "(Ljava/lang/Object;)Z" } : Jvm.MethodName) ({ cls := "java/lang/Object", name := "equals", desc := "(Ljava/lang/Object;)Z" } : Jvm.MethodName)) ∈ lw_all := lw_g (lw_at lw_m5 210 rfl) rfl
theorem q1653 : (Jvm.Cond.instanceMethod ({ cls := "NoteImporter$Edition", name := "pageCount", desc := "()I" } : Jvm.MethodName)) ∈ lw_all := lw_g (lw_at lw_m7 94 rfl) rfl
theorem q1654 : (Jvm.Cond.selects "NoteImporter$Edition" ({ cls := "NoteImporter$Edition", name := "pageCount", desc := "()I" } : Jvm.MethodName) ({ cls := "NoteImporter$Edition", name := "pageCount", desc := "()I" } : Jvm.MethodName)) ∈ lw_all := lw_g (lw_at lw_m7 95 rfl) rfl
theorem q1655 : (Jvm.Cond.code ({ cls := "NoteImporter$Edition", name := "pageCount", desc := "()I" } : Jvm.MethodName) prog_6_method_8_code (1 : Nat) (Option.some Jvm.ClassFile.FieldType.int)) ∈ lw_all := lw_g (lw_at lw_m7 96 rfl) rfl
theorem q1656 : (Jvm.Cond.methodLink "NoteImporter$Edition" (81 : Nat) ({ cls := "NoteImporter$Edition", name := "lineCount", desc := "()I" } : Jvm.MethodName)) ∈ lw_all := lw_g (lw_at lw_m7 97 rfl) rfl
theorem q1657 : (Jvm.Cond.instanceMethod ({ cls := "NoteImporter$Edition", name := "lineCount", desc := "()I" } : Jvm.MethodName)) ∈ lw_all := lw_g (lw_at lw_m7 98 rfl) rfl
theorem q1658 : (Jvm.Cond.selects "NoteImporter$Edition" ({ cls := "NoteImporter$Edition", name := "lineCount", desc := "()I" } : Jvm.MethodName) ({ cls := "NoteImporter$Edition", name := "lineCount", desc := "()I" } : Jvm.MethodName)) ∈ lw_all := lw_g (lw_at lw_m7 99 rfl) rfl
theorem q1659 : (Jvm.Cond.code ({ cls := "NoteImporter$Edition", name := "lineCount", desc := "()I" } : Jvm.MethodName) prog_6_method_7_code (1 : Nat) (Option.some Jvm.ClassFile.FieldType.int)) ∈ lw_all := lw_g (lw_at lw_m7 100 rfl) rfl
theorem q1660 : (Jvm.Cond.methodLink "NoteImporter$Edition" (78 : Nat) ({ cls := "NoteImporter$Edition", name := "last", desc := "()I" } : Jvm.MethodName)) ∈ lw_all := lw_g (lw_at lw_m7 101 rfl) rfl
theorem q1661 : (Jvm.Cond.instanceMethod ({ cls := "NoteImporter$Edition", name := "last", desc := "()I" } : Jvm.MethodName)) ∈ lw_all := lw_g (lw_at lw_m7 102 rfl) rfl
theorem q1662 : (Jvm.Cond.selects "NoteImporter$Edition" ({ cls := "NoteImporter$Edition", name := "last", desc := "()I" } : Jvm.MethodName) ({ cls := "NoteImporter$Edition", name := "last", desc := "()I" } : Jvm.MethodName)) ∈ lw_all := lw_g (lw_at lw_m7 103 rfl) rfl
theorem q1663 : (Jvm.Cond.code ({ cls := "NoteImporter$Edition", name := "last", desc := "()I" } : Jvm.MethodName) prog_6_method_4_code (1 : Nat) (Option.some Jvm.ClassFile.FieldType.int)) ∈ lw_all := lw_g (lw_at lw_m7 104 rfl) rfl
theorem q1666 : (Jvm.Cond.instanceMethod ({ cls := "NoteImporter$Edition", name := "page", desc := "(I)I" } : Jvm.MethodName)) ∈ lw_all := lw_g (lw_at lw_m7 107 rfl) rfl
theorem q1667 : (Jvm.Cond.selects "NoteImporter$Edition" ({ cls := "NoteImporter$Edition", name := "page", desc := "(I)I" } : Jvm.MethodName) ({ cls := "NoteImporter$Edition", name := "page", desc := "(I)I" } : Jvm.MethodName)) ∈ lw_all := lw_g (lw_at lw_m7 108 rfl) rfl
theorem q1668 : (Jvm.Cond.code ({ cls := "NoteImporter$Edition", name := "page", desc := "(I)I" } : Jvm.MethodName) prog_6_method_9_code (2 : Nat) (Option.some Jvm.ClassFile.FieldType.int)) ∈ lw_all := lw_g (lw_at lw_m7 109 rfl) rfl
theorem q1850 : (Jvm.Cond.instanceMethod ({ cls := "NoteImporter$Edition", name := "copy", desc := "()LNoteImporter$Edition;" } : Jvm.MethodName)) ∈ lw_all := lw_g (lw_at lw_m8 51 rfl) rfl
theorem q1851 : (Jvm.Cond.selects "NoteImporter$Edition" ({ cls := "NoteImporter$Edition", name := "copy", desc := "()LNoteImporter$Edition;" } : Jvm.MethodName) ({ cls := "NoteImporter$Edition", name := "copy", desc := "()LNoteImporter$Edition;" } : Jvm.MethodName)) ∈ lw_all := lw_g (lw_at lw_m8 52 rfl) rfl
theorem q1852 : (Jvm.Cond.code ({ cls := "NoteImporter$Edition", name := "copy", desc := "()LNoteImporter$Edition;" } : Jvm.MethodName) prog_6_method_2_code (2 : Nat) (Option.some (Jvm.ClassFile.FieldType.object "NoteImporter$Edition"))) ∈ lw_all := lw_g (lw_at lw_m8 53 rfl) rfl
theorem q1853 : (Jvm.Cond.classLink "NoteImporter$Edition" (15 : Nat) "NoteImporter$Edition") ∈ lw_all := lw_g (lw_at lw_m8 54 rfl) rfl
theorem q1854 : (Jvm.Cond.instantiable "NoteImporter$Edition" (7 : Nat)) ∈ lw_all := lw_g (lw_at lw_m8 55 rfl) rfl
theorem q1855 : (Jvm.Cond.methodLink "NoteImporter$Edition" (40 : Nat) ({ cls := "NoteImporter$Edition", name := "<init>", desc := "(II)V" } : Jvm.MethodName)) ∈ lw_all := lw_g (lw_at lw_m8 56 rfl) rfl
theorem q1856 : (Jvm.Cond.instanceMethod ({ cls := "NoteImporter$Edition", name := "<init>", desc := "(II)V" } : Jvm.MethodName)) ∈ lw_all := lw_g (lw_at lw_m8 57 rfl) rfl
theorem q1857 : (Jvm.Cond.code ({ cls := "NoteImporter$Edition", name := "<init>", desc := "(II)V" } : Jvm.MethodName) prog_6_method_1_code (3 : Nat) (Option.none : Option Jvm.ClassFile.FieldType)) ∈ lw_all := lw_g (lw_at lw_m8 58 rfl) rfl
theorem q1858 : (Jvm.Cond.methodLink "NoteImporter$Edition" (3 : Nat) ({ cls := "java/lang/Object", name := "<init>", desc := "()V" } : Jvm.MethodName)) ∈ lw_all := lw_g (lw_at lw_m8 59 rfl) rfl
theorem q1859 : (Jvm.Cond.classLink "NoteImporter$Edition" (9 : Nat) "java/util/ArrayList") ∈ lw_all := lw_g (lw_at lw_m8 60 rfl) rfl
theorem q1860 : (Jvm.Cond.methodLink "NoteImporter$Edition" (11 : Nat) ({ cls := "java/util/ArrayList", name := "<init>", desc := "(I)V" } : Jvm.MethodName)) ∈ lw_all := lw_g (lw_at lw_m8 61 rfl) rfl
theorem q1861 : (Jvm.Cond.fieldLink "NoteImporter$Edition" (14 : Nat) "NoteImporter$Edition" "words" "Ljava/util/ArrayList;") ∈ lw_all := lw_g (lw_at lw_m8 62 rfl) rfl
theorem q1864 : (Jvm.Cond.fieldLink "NoteImporter$Edition" (20 : Nat) "NoteImporter$Edition" "begins" "Ljava/util/ArrayList;") ∈ lw_all := lw_g (lw_at lw_m8 65 rfl) rfl
theorem q1866 : (Jvm.Cond.fieldLink "NoteImporter$Edition" (33 : Nat) "NoteImporter$Edition" "width" "I") ∈ lw_all := lw_g (lw_at lw_m8 67 rfl) rfl
theorem q1868 : (Jvm.Cond.fieldLink "NoteImporter$Edition" (37 : Nat) "NoteImporter$Edition" "lines" "I") ∈ lw_all := lw_g (lw_at lw_m8 69 rfl) rfl
theorem q1871 : (Jvm.Cond.fieldLink "NoteImporter$Edition" (23 : Nat) "NoteImporter$Edition" "lineOf" "[I") ∈ lw_all := lw_g (lw_at lw_m8 72 rfl) rfl
theorem q1875 : (Jvm.Cond.fieldLink "NoteImporter$Edition" (27 : Nat) "NoteImporter$Edition" "columnOf" "[I") ∈ lw_all := lw_g (lw_at lw_m8 76 rfl) rfl
theorem q1877 : (Jvm.Cond.fieldLink "NoteImporter$Edition" (30 : Nat) "NoteImporter$Edition" "indexOf" "[I") ∈ lw_all := lw_g (lw_at lw_m8 78 rfl) rfl
theorem q1879 : (Jvm.Cond.laysFinal "NoteImporter$Edition" "NoteImporter$Edition" "words" "Ljava/util/ArrayList;") ∈ lw_all := lw_g (lw_at lw_m8 80 rfl) rfl
theorem q1880 : (Jvm.Cond.soleField "NoteImporter$Edition" "words") ∈ lw_all := lw_g (lw_at lw_m8 81 rfl) rfl
theorem q1881 : (Jvm.Cond.laysFinal "NoteImporter$Edition" "NoteImporter$Edition" "begins" "Ljava/util/ArrayList;") ∈ lw_all := lw_g (lw_at lw_m8 82 rfl) rfl
theorem q1882 : (Jvm.Cond.soleField "NoteImporter$Edition" "begins") ∈ lw_all := lw_g (lw_at lw_m8 83 rfl) rfl
theorem q1883 : (Jvm.Cond.lays "NoteImporter$Edition" "NoteImporter$Edition" "width" "I") ∈ lw_all := lw_g (lw_at lw_m8 84 rfl) rfl
theorem q1884 : (Jvm.Cond.soleField "NoteImporter$Edition" "width") ∈ lw_all := lw_g (lw_at lw_m8 85 rfl) rfl
theorem q1885 : (Jvm.Cond.lays "NoteImporter$Edition" "NoteImporter$Edition" "lines" "I") ∈ lw_all := lw_g (lw_at lw_m8 86 rfl) rfl
theorem q1886 : (Jvm.Cond.soleField "NoteImporter$Edition" "lines") ∈ lw_all := lw_g (lw_at lw_m8 87 rfl) rfl
theorem q1887 : (Jvm.Cond.laysFinal "NoteImporter$Edition" "NoteImporter$Edition" "lineOf" "[I") ∈ lw_all := lw_g (lw_at lw_m8 88 rfl) rfl
theorem q1888 : (Jvm.Cond.soleField "NoteImporter$Edition" "lineOf") ∈ lw_all := lw_g (lw_at lw_m8 89 rfl) rfl
theorem q1889 : (Jvm.Cond.laysFinal "NoteImporter$Edition" "NoteImporter$Edition" "columnOf" "[I") ∈ lw_all := lw_g (lw_at lw_m8 90 rfl) rfl
theorem q1890 : (Jvm.Cond.soleField "NoteImporter$Edition" "columnOf") ∈ lw_all := lw_g (lw_at lw_m8 91 rfl) rfl
theorem q1891 : (Jvm.Cond.laysFinal "NoteImporter$Edition" "NoteImporter$Edition" "indexOf" "[I") ∈ lw_all := lw_g (lw_at lw_m8 92 rfl) rfl
theorem q1892 : (Jvm.Cond.soleField "NoteImporter$Edition" "indexOf") ∈ lw_all := lw_g (lw_at lw_m8 93 rfl) rfl
theorem q1893 : (Jvm.Cond.superclass "NoteImporter$Edition" "java/lang/Object") ∈ lw_all := lw_g (lw_at lw_m8 94 rfl) rfl
theorem q1894 : (Jvm.Cond.methodLink "NoteImporter$Edition" (43 : Nat) ({ cls := "java/util/ArrayList", name := "addAll", desc := "(Ljava/util/Collection;)Z" } : Jvm.MethodName)) ∈ lw_all := lw_g (lw_at lw_m8 95 rfl) rfl
theorem q1989 : (Jvm.Cond.methodLink "NoteImporter$Edition" (47 : Nat) ({ cls := "NoteImporter$Edition", name := "lay", desc := "()V" } : Jvm.MethodName)) ∈ lw_all := lw_g (lw_at lw_m8 190 rfl) rfl
theorem q1990 : (Jvm.Cond.instanceMethod ({ cls := "NoteImporter$Edition", name := "lay", desc := "()V" } : Jvm.MethodName)) ∈ lw_all := lw_g (lw_at lw_m8 191 rfl) rfl
theorem q1991 : (Jvm.Cond.selects "NoteImporter$Edition" ({ cls := "NoteImporter$Edition", name := "lay", desc := "()V" } : Jvm.MethodName) ({ cls := "NoteImporter$Edition", name := "lay", desc := "()V" } : Jvm.MethodName)) ∈ lw_all := lw_g (lw_at lw_m8 192 rfl) rfl
theorem q1992 : (Jvm.Cond.code ({ cls := "NoteImporter$Edition", name := "lay", desc := "()V" } : Jvm.MethodName) prog_6_method_6_code (6 : Nat) (Option.none : Option Jvm.ClassFile.FieldType)) ∈ lw_all := lw_g (lw_at lw_m8 193 rfl) rfl
theorem q1993 : (Jvm.Cond.methodLink "NoteImporter$Edition" (64 : Nat) ({ cls := "NoteImporter$Edition", name := "size", desc := "()I" } : Jvm.MethodName)) ∈ lw_all := lw_g (lw_at lw_m8 194 rfl) rfl
theorem q1994 : (Jvm.Cond.methodLink "NoteImporter$Edition" (65 : Nat) ({ cls := "java/util/ArrayList", name := "get", desc := "(I)Ljava/lang/Object;" } : Jvm.MethodName)) ∈ lw_all := lw_g (lw_at lw_m8 195 rfl) rfl
theorem q1995 : (Jvm.Cond.classLink "NoteImporter$Edition" (69 : Nat) "java/lang/String") ∈ lw_all := lw_g (lw_at lw_m8 196 rfl) rfl
theorem q1996 : (Jvm.Cond.methodLink "NoteImporter$Edition" (71 : Nat) ({ cls := "java/lang/String", name := "length", desc := "()I" } : Jvm.MethodName)) ∈ lw_all := lw_g (lw_at lw_m8 197 rfl) rfl
theorem q1997 : (Jvm.Cond.classLink "NoteImporter$Edition" (59 : Nat) "java/lang/Boolean") ∈ lw_all := lw_g (lw_at lw_m8 198 rfl) rfl
theorem q1998 : (Jvm.Cond.methodLink "NoteImporter$Edition" (74 : Nat) ({ cls := "java/lang/Boolean", name := "booleanValue", desc := "()Z" } : Jvm.MethodName)) ∈ lw_all := lw_g (lw_at lw_m8 199 rfl) rfl
theorem q2497 : (Jvm.Cond.instanceMethod ({ cls := "NoteImporter$Edition", name := "add", desc := "(Ljava/lang/String;Z)V" } : Jvm.MethodName)) ∈ lw_all := lw_g (lw_at lw_m10 218 rfl) rfl
theorem q2498 : (Jvm.Cond.selects "NoteImporter$Edition" ({ cls := "NoteImporter$Edition", name := "add", desc := "(Ljava/lang/String;Z)V" } : Jvm.MethodName) ({ cls := "NoteImporter$Edition", name := "add", desc := "(Ljava/lang/String;Z)V" } : Jvm.MethodName)) ∈ lw_all := lw_g (lw_at lw_m10 219 rfl) rfl
theorem q2499 : (Jvm.Cond.code ({ cls := "NoteImporter$Edition", name := "add", desc := "(Ljava/lang/String;Z)V" } : Jvm.MethodName) prog_6_method_5_code (3 : Nat) (Option.none : Option Jvm.ClassFile.FieldType)) ∈ lw_all := lw_g (lw_at lw_m10 220 rfl) rfl
theorem q2500 : (Jvm.Cond.methodLink "NoteImporter$Edition" (54 : Nat) ({ cls := "java/util/ArrayList", name := "add", desc := "(Ljava/lang/Object;)Z" } : Jvm.MethodName)) ∈ lw_all := lw_g (lw_at lw_m10 221 rfl) rfl
theorem q2501 : (Jvm.Cond.methodLink "NoteImporter$Edition" (58 : Nat) ({ cls := "java/lang/Boolean", name := "valueOf", desc := "(Z)Ljava/lang/Boolean;" } : Jvm.MethodName)) ∈ lw_all := lw_g (lw_at lw_m10 222 rfl) rfl
theorem q2562 : (Jvm.Cond.instanceMethod ({ cls := "NoteImporter$Edition", name := "find", desc := "(Ljava/util/ArrayList;)I" } : Jvm.MethodName)) ∈ lw_all := lw_g (lw_at lw_m11 43 rfl) rfl
theorem q2563 : (Jvm.Cond.selects "NoteImporter$Edition" ({ cls := "NoteImporter$Edition", name := "find", desc := "(Ljava/util/ArrayList;)I" } : Jvm.MethodName) ({ cls := "NoteImporter$Edition", name := "find", desc := "(Ljava/util/ArrayList;)I" } : Jvm.MethodName)) ∈ lw_all := lw_g (lw_at lw_m11 44 rfl) rfl
theorem q2564 : (Jvm.Cond.code ({ cls := "NoteImporter$Edition", name := "find", desc := "(Ljava/util/ArrayList;)I" } : Jvm.MethodName) prog_6_method_11_code (5 : Nat) (Option.some Jvm.ClassFile.FieldType.int)) ∈ lw_all := lw_g (lw_at lw_m11 45 rfl) rfl
theorem q2565 : (Jvm.Cond.methodLink "NoteImporter$Edition" (88 : Nat) ({ cls := "java/lang/String", name := "equals", desc := "(Ljava/lang/Object;)Z" } : Jvm.MethodName)) ∈ lw_all := lw_g (lw_at lw_m11 46 rfl) rfl
theorem q2574 : (Jvm.Cond.instanceMethod ({ cls := "NoteImporter$Edition", name := "find", desc := "(III)I" } : Jvm.MethodName)) ∈ lw_all := lw_g (lw_at lw_m11 55 rfl) rfl
theorem q2575 : (Jvm.Cond.selects "NoteImporter$Edition" ({ cls := "NoteImporter$Edition", name := "find", desc := "(III)I" } : Jvm.MethodName) ({ cls := "NoteImporter$Edition", name := "find", desc := "(III)I" } : Jvm.MethodName)) ∈ lw_all := lw_g (lw_at lw_m11 56 rfl) rfl
theorem q2576 : (Jvm.Cond.code ({ cls := "NoteImporter$Edition", name := "find", desc := "(III)I" } : Jvm.MethodName) prog_6_method_10_code (6 : Nat) (Option.some Jvm.ClassFile.FieldType.int)) ∈ lw_all := lw_g (lw_at lw_m11 57 rfl) rfl
theorem q2577 : (Jvm.Cond.methodLinkNest "NoteImporter$Edition" (84 : Nat) ({ cls := "NoteImporter", name := "isBetween", desc := "(JJJ)Z" } : Jvm.MethodName) "NoteImporter") ∈ lw_tbl := lw_at lw_m11 58 rfl
theorem q3805 : (Jvm.Cond.castable "NoteImporter$Edition" "java/lang/Object") ∈ lw_tbl := lw_at lw_m16 86 rfl
theorem in_X5 : ∀ w ∈ wsX50, w ∈ lw_all := lw_in wsX50 [1879, 1881, 1883, 1885, 1887, 1889, 1891] (by decide +kernel) (by decide +kernel)

/-! NoteImporter$Note -/
set_option maxRecDepth 100000
def RX6 : String := "NoteImporter$Note"
def TX6 : u_T := fun k => match k with
  | 0 => ("NoteImporter$Note", "reader", "I", true)
  | 1 => ("NoteImporter$Note", "kind", "I", true)
  | 2 => ("NoteImporter$Note", "edition", "I", true)
  | 3 => ("NoteImporter$Note", "said", "Ljava/util/ArrayList;", true)
  | 4 => ("NoteImporter$Note", "different", "Ljava/util/HashSet;", true)
  | 5 => ("NoteImporter$Note", "first", "I", false)
  | _ => ("NoteImporter$Note", "last", "I", false)
def tyX6 : Nat → FieldType := fun k => match k with
  | 0 => .int
  | 1 => .int
  | 2 => .int
  | 3 => .object "java/util/ArrayList"
  | 4 => .object "java/util/HashSet"
  | 5 => .int
  | _ => .int
abbrev wsX60 : List Cond := u_ws RX6 TX6 7
theorem nmX6 : ∀ a, a < 7 → ∀ b, b < 7 → a ≠ b → (TX6 a).2.1 ≠ (TX6 b).2.1 := by decide +kernel
theorem tyX6_ok : ∀ k, k < 7 → parseFieldDescriptor (TX6 k).2.2.1 = some (tyX6 k) := by decide +kernel
abbrev cX6_copy : ByteArray := prog_11_method_2_code
def yX6_copy : MethodName := ⟨RX6, "copy", "()LNoteImporter$Note;"⟩
def dkwX6_copy_1 : List UInt8 := [42, 180, 0, 32, 183, 0, 40, 176]
abbrev dktX6_copy_1 : List UInt8 := dkwX6_copy_1 ++ []
def dkwX6_copy_0 : List UInt8 := [187, 0, 11, 89, 42, 180, 0, 16, 42, 180, 0, 20, 42, 180, 0, 23, 42, 180, 0, 26, 42, 180, 0, 29]
abbrev dktX6_copy_0 : List UInt8 := dkwX6_copy_0 ++ dktX6_copy_1
theorem dksX6_copy_0 : cX6_copy.data.toList.drop 0 = dktX6_copy_0 := by decide +kernel
theorem dksX6_copy_1 : cX6_copy.data.toList.drop 24 = dktX6_copy_1 := dk_seg dksX6_copy_0 24 rfl rfl
theorem dX6_copy_0 : decode cX6_copy 0 = .ok (.new 11, 3) := dk_187 0 11 (dk_at dksX6_copy_0 0 rfl rfl)
theorem dX6_copy_3 : decode cX6_copy 3 = .ok (.dup, 1) := dk_89 (dk_at dksX6_copy_0 3 rfl rfl)
theorem dX6_copy_4 : decode cX6_copy 4 = .ok (.aload_n 0, 1) := dk_42 (dk_at dksX6_copy_0 4 rfl rfl)
theorem dX6_copy_5 : decode cX6_copy 5 = .ok (.getfield 16, 3) := dk_180 0 16 (dk_at dksX6_copy_0 5 rfl rfl)
theorem dX6_copy_8 : decode cX6_copy 8 = .ok (.aload_n 0, 1) := dk_42 (dk_at dksX6_copy_0 8 rfl rfl)
theorem dX6_copy_9 : decode cX6_copy 9 = .ok (.getfield 20, 3) := dk_180 0 20 (dk_at dksX6_copy_0 9 rfl rfl)
theorem dX6_copy_12 : decode cX6_copy 12 = .ok (.aload_n 0, 1) := dk_42 (dk_at dksX6_copy_0 12 rfl rfl)
theorem dX6_copy_13 : decode cX6_copy 13 = .ok (.getfield 23, 3) := dk_180 0 23 (dk_at dksX6_copy_0 13 rfl rfl)
theorem dX6_copy_16 : decode cX6_copy 16 = .ok (.aload_n 0, 1) := dk_42 (dk_at dksX6_copy_0 16 rfl rfl)
theorem dX6_copy_17 : decode cX6_copy 17 = .ok (.getfield 26, 3) := dk_180 0 26 (dk_at dksX6_copy_0 17 rfl rfl)
theorem dX6_copy_20 : decode cX6_copy 20 = .ok (.aload_n 0, 1) := dk_42 (dk_at dksX6_copy_0 20 rfl rfl)
theorem dX6_copy_21 : decode cX6_copy 21 = .ok (.getfield 29, 3) := dk_180 0 29 (dk_at dksX6_copy_0 21 rfl rfl)
theorem dX6_copy_24 : decode cX6_copy 24 = .ok (.aload_n 0, 1) := dk_42 (dk_at dksX6_copy_1 0 rfl rfl)
theorem dX6_copy_25 : decode cX6_copy 25 = .ok (.getfield 32, 3) := dk_180 0 32 (dk_at dksX6_copy_1 1 rfl rfl)
theorem dX6_copy_28 : decode cX6_copy 28 = .ok (.invokespecial 40, 3) := dk_183 0 40 (dk_at dksX6_copy_1 4 rfl rfl)
theorem dX6_copy_31 : decode cX6_copy 31 = .ok (.areturn, 1) := dk_176 (dk_at dksX6_copy_1 7 rfl rfl)
abbrev cX6_init : ByteArray := prog_11_method_1_code
def yX6_init : MethodName := ⟨RX6, "<init>", "(IIIIILjava/util/ArrayList;)V"⟩
def dkwX6_init_2 : List UInt8 := [181, 0, 32, 42, 180, 0, 10, 25, 6, 182, 0, 36, 87, 177]
abbrev dktX6_init_2 : List UInt8 := dkwX6_init_2 ++ []
def dkwX6_init_1 : List UInt8 := [181, 0, 20, 42, 29, 181, 0, 23, 42, 21, 4, 181, 0, 26, 42, 21, 5, 181, 0, 29, 42, 25, 6]
abbrev dktX6_init_1 : List UInt8 := dkwX6_init_1 ++ dktX6_init_2
def dkwX6_init_0 : List UInt8 := [42, 183, 0, 1, 42, 187, 0, 7, 89, 183, 0, 9, 181, 0, 10, 42, 27, 181, 0, 16, 42, 28]
abbrev dktX6_init_0 : List UInt8 := dkwX6_init_0 ++ dktX6_init_1
theorem dksX6_init_0 : cX6_init.data.toList.drop 0 = dktX6_init_0 := by decide +kernel
theorem dksX6_init_1 : cX6_init.data.toList.drop 22 = dktX6_init_1 := dk_seg dksX6_init_0 22 rfl rfl
theorem dksX6_init_2 : cX6_init.data.toList.drop 45 = dktX6_init_2 := dk_seg dksX6_init_1 23 rfl rfl
theorem dX6_init_0 : decode cX6_init 0 = .ok (.aload_n 0, 1) := dk_42 (dk_at dksX6_init_0 0 rfl rfl)
theorem dX6_init_1 : decode cX6_init 1 = .ok (.invokespecial 1, 3) := dk_183 0 1 (dk_at dksX6_init_0 1 rfl rfl)
theorem dX6_init_4 : decode cX6_init 4 = .ok (.aload_n 0, 1) := dk_42 (dk_at dksX6_init_0 4 rfl rfl)
theorem dX6_init_5 : decode cX6_init 5 = .ok (.new 7, 3) := dk_187 0 7 (dk_at dksX6_init_0 5 rfl rfl)
theorem dX6_init_8 : decode cX6_init 8 = .ok (.dup, 1) := dk_89 (dk_at dksX6_init_0 8 rfl rfl)
theorem dX6_init_9 : decode cX6_init 9 = .ok (.invokespecial 9, 3) := dk_183 0 9 (dk_at dksX6_init_0 9 rfl rfl)
theorem dX6_init_12 : decode cX6_init 12 = .ok (.putfield 10, 3) := dk_181 0 10 (dk_at dksX6_init_0 12 rfl rfl)
theorem dX6_init_15 : decode cX6_init 15 = .ok (.aload_n 0, 1) := dk_42 (dk_at dksX6_init_0 15 rfl rfl)
theorem dX6_init_16 : decode cX6_init 16 = .ok (.iload_n 1, 1) := dk_27 (dk_at dksX6_init_0 16 rfl rfl)
theorem dX6_init_17 : decode cX6_init 17 = .ok (.putfield 16, 3) := dk_181 0 16 (dk_at dksX6_init_0 17 rfl rfl)
theorem dX6_init_20 : decode cX6_init 20 = .ok (.aload_n 0, 1) := dk_42 (dk_at dksX6_init_0 20 rfl rfl)
theorem dX6_init_21 : decode cX6_init 21 = .ok (.iload_n 2, 1) := dk_28 (dk_at dksX6_init_0 21 rfl rfl)
theorem dX6_init_22 : decode cX6_init 22 = .ok (.putfield 20, 3) := dk_181 0 20 (dk_at dksX6_init_1 0 rfl rfl)
theorem dX6_init_25 : decode cX6_init 25 = .ok (.aload_n 0, 1) := dk_42 (dk_at dksX6_init_1 3 rfl rfl)
theorem dX6_init_26 : decode cX6_init 26 = .ok (.iload_n 3, 1) := dk_29 (dk_at dksX6_init_1 4 rfl rfl)
theorem dX6_init_27 : decode cX6_init 27 = .ok (.putfield 23, 3) := dk_181 0 23 (dk_at dksX6_init_1 5 rfl rfl)
theorem dX6_init_30 : decode cX6_init 30 = .ok (.aload_n 0, 1) := dk_42 (dk_at dksX6_init_1 8 rfl rfl)
theorem dX6_init_31 : decode cX6_init 31 = .ok (.iload 4, 2) := dk_21 4 (dk_at dksX6_init_1 9 rfl rfl)
theorem dX6_init_33 : decode cX6_init 33 = .ok (.putfield 26, 3) := dk_181 0 26 (dk_at dksX6_init_1 11 rfl rfl)
theorem dX6_init_36 : decode cX6_init 36 = .ok (.aload_n 0, 1) := dk_42 (dk_at dksX6_init_1 14 rfl rfl)
theorem dX6_init_37 : decode cX6_init 37 = .ok (.iload 5, 2) := dk_21 5 (dk_at dksX6_init_1 15 rfl rfl)
theorem dX6_init_39 : decode cX6_init 39 = .ok (.putfield 29, 3) := dk_181 0 29 (dk_at dksX6_init_1 17 rfl rfl)
theorem dX6_init_42 : decode cX6_init 42 = .ok (.aload_n 0, 1) := dk_42 (dk_at dksX6_init_1 20 rfl rfl)
theorem dX6_init_43 : decode cX6_init 43 = .ok (.aload 6, 2) := dk_25 6 (dk_at dksX6_init_1 21 rfl rfl)
theorem dX6_init_45 : decode cX6_init 45 = .ok (.putfield 32, 3) := dk_181 0 32 (dk_at dksX6_init_2 0 rfl rfl)
theorem dX6_init_48 : decode cX6_init 48 = .ok (.aload_n 0, 1) := dk_42 (dk_at dksX6_init_2 3 rfl rfl)
theorem dX6_init_49 : decode cX6_init 49 = .ok (.getfield 10, 3) := dk_180 0 10 (dk_at dksX6_init_2 4 rfl rfl)
theorem dX6_init_52 : decode cX6_init 52 = .ok (.aload 6, 2) := dk_25 6 (dk_at dksX6_init_2 7 rfl rfl)
theorem dX6_init_54 : decode cX6_init 54 = .ok (.invokevirtual 36, 3) := dk_182 0 36 (dk_at dksX6_init_2 9 rfl rfl)
theorem dX6_init_57 : decode cX6_init 57 = .ok (.pop, 1) := dk_87 (dk_at dksX6_init_2 12 rfl rfl)
theorem dX6_init_58 : decode cX6_init 58 = .ok (.return_, 1) := dk_177 (dk_at dksX6_init_2 13 rfl rfl)
abbrev cX6_inserted : ByteArray := prog_11_method_3_code
def yX6_inserted : MethodName := ⟨RX6, "inserted", "(I)V"⟩
def dkwX6_inserted_1 : List UInt8 := [180, 0, 26, 27, 42, 180, 0, 26, 163, 0, 7, 4, 167, 0, 4, 3, 96, 181, 0, 26, 177]
abbrev dktX6_inserted_1 : List UInt8 := dkwX6_inserted_1 ++ []
def dkwX6_inserted_0 : List UInt8 := [42, 89, 180, 0, 29, 27, 42, 180, 0, 29, 163, 0, 7, 4, 167, 0, 4, 3, 96, 181, 0, 29, 42, 89]
abbrev dktX6_inserted_0 : List UInt8 := dkwX6_inserted_0 ++ dktX6_inserted_1
theorem dksX6_inserted_0 : cX6_inserted.data.toList.drop 0 = dktX6_inserted_0 := by decide +kernel
theorem dksX6_inserted_1 : cX6_inserted.data.toList.drop 24 = dktX6_inserted_1 := dk_seg dksX6_inserted_0 24 rfl rfl
theorem dX6_inserted_0 : decode cX6_inserted 0 = .ok (.aload_n 0, 1) := dk_42 (dk_at dksX6_inserted_0 0 rfl rfl)
theorem dX6_inserted_1 : decode cX6_inserted 1 = .ok (.dup, 1) := dk_89 (dk_at dksX6_inserted_0 1 rfl rfl)
theorem dX6_inserted_2 : decode cX6_inserted 2 = .ok (.getfield 29, 3) := dk_180 0 29 (dk_at dksX6_inserted_0 2 rfl rfl)
theorem dX6_inserted_5 : decode cX6_inserted 5 = .ok (.iload_n 1, 1) := dk_27 (dk_at dksX6_inserted_0 5 rfl rfl)
theorem dX6_inserted_6 : decode cX6_inserted 6 = .ok (.aload_n 0, 1) := dk_42 (dk_at dksX6_inserted_0 6 rfl rfl)
theorem dX6_inserted_7 : decode cX6_inserted 7 = .ok (.getfield 29, 3) := dk_180 0 29 (dk_at dksX6_inserted_0 7 rfl rfl)
theorem dX6_inserted_10 : decode cX6_inserted 10 = .ok (.if_icmp .gt 7, 3) := dk_163 0 7 (dk_at dksX6_inserted_0 10 rfl rfl)
theorem dX6_inserted_13 : decode cX6_inserted 13 = .ok (.iconst 1, 1) := dk_4 (dk_at dksX6_inserted_0 13 rfl rfl)
theorem dX6_inserted_14 : decode cX6_inserted 14 = .ok (.goto 4, 3) := dk_167 0 4 (dk_at dksX6_inserted_0 14 rfl rfl)
theorem dX6_inserted_17 : decode cX6_inserted 17 = .ok (.iconst 0, 1) := dk_3 (dk_at dksX6_inserted_0 17 rfl rfl)
theorem dX6_inserted_18 : decode cX6_inserted 18 = .ok (.iadd, 1) := dk_96 (dk_at dksX6_inserted_0 18 rfl rfl)
theorem dX6_inserted_19 : decode cX6_inserted 19 = .ok (.putfield 29, 3) := dk_181 0 29 (dk_at dksX6_inserted_0 19 rfl rfl)
theorem dX6_inserted_22 : decode cX6_inserted 22 = .ok (.aload_n 0, 1) := dk_42 (dk_at dksX6_inserted_0 22 rfl rfl)
theorem dX6_inserted_23 : decode cX6_inserted 23 = .ok (.dup, 1) := dk_89 (dk_at dksX6_inserted_0 23 rfl rfl)
theorem dX6_inserted_24 : decode cX6_inserted 24 = .ok (.getfield 26, 3) := dk_180 0 26 (dk_at dksX6_inserted_1 0 rfl rfl)
theorem dX6_inserted_27 : decode cX6_inserted 27 = .ok (.iload_n 1, 1) := dk_27 (dk_at dksX6_inserted_1 3 rfl rfl)
theorem dX6_inserted_28 : decode cX6_inserted 28 = .ok (.aload_n 0, 1) := dk_42 (dk_at dksX6_inserted_1 4 rfl rfl)
theorem dX6_inserted_29 : decode cX6_inserted 29 = .ok (.getfield 26, 3) := dk_180 0 26 (dk_at dksX6_inserted_1 5 rfl rfl)
theorem dX6_inserted_32 : decode cX6_inserted 32 = .ok (.if_icmp .gt 7, 3) := dk_163 0 7 (dk_at dksX6_inserted_1 8 rfl rfl)
theorem dX6_inserted_35 : decode cX6_inserted 35 = .ok (.iconst 1, 1) := dk_4 (dk_at dksX6_inserted_1 11 rfl rfl)
theorem dX6_inserted_36 : decode cX6_inserted 36 = .ok (.goto 4, 3) := dk_167 0 4 (dk_at dksX6_inserted_1 12 rfl rfl)
theorem dX6_inserted_39 : decode cX6_inserted 39 = .ok (.iconst 0, 1) := dk_3 (dk_at dksX6_inserted_1 15 rfl rfl)
theorem dX6_inserted_40 : decode cX6_inserted 40 = .ok (.iadd, 1) := dk_96 (dk_at dksX6_inserted_1 16 rfl rfl)
theorem dX6_inserted_41 : decode cX6_inserted 41 = .ok (.putfield 26, 3) := dk_181 0 26 (dk_at dksX6_inserted_1 17 rfl rfl)
theorem dX6_inserted_44 : decode cX6_inserted 44 = .ok (.return_, 1) := dk_177 (dk_at dksX6_inserted_1 20 rfl rfl)
abbrev cX6_deleted : ByteArray := prog_11_method_4_code
def yX6_deleted : MethodName := ⟨RX6, "deleted", "(II)V"⟩
def dkwX6_deleted_3 : List UInt8 := [180, 0, 26, 162, 0, 7, 4, 167, 0, 4, 3, 100, 181, 0, 26, 177]
abbrev dktX6_deleted_3 : List UInt8 := dkwX6_deleted_3 ++ []
def dkwX6_deleted_2 : List UInt8 := [180, 0, 29, 163, 0, 7, 4, 167, 0, 4, 3, 100, 181, 0, 29, 42, 89, 180, 0, 26, 27, 42]
abbrev dktX6_deleted_2 : List UInt8 := dkwX6_deleted_2 ++ dktX6_deleted_3
def dkwX6_deleted_1 : List UInt8 := [184, 0, 43, 181, 0, 26, 42, 42, 180, 0, 26, 181, 0, 29, 177, 42, 89, 180, 0, 29, 27, 42]
abbrev dktX6_deleted_1 : List UInt8 := dkwX6_deleted_1 ++ dktX6_deleted_2
def dkwX6_deleted_0 : List UInt8 := [42, 180, 0, 26, 42, 180, 0, 29, 160, 0, 31, 42, 180, 0, 26, 27, 160, 0, 23, 42, 27, 28, 4, 100]
abbrev dktX6_deleted_0 : List UInt8 := dkwX6_deleted_0 ++ dktX6_deleted_1
theorem dksX6_deleted_0 : cX6_deleted.data.toList.drop 0 = dktX6_deleted_0 := by decide +kernel
theorem dksX6_deleted_1 : cX6_deleted.data.toList.drop 24 = dktX6_deleted_1 := dk_seg dksX6_deleted_0 24 rfl rfl
theorem dksX6_deleted_2 : cX6_deleted.data.toList.drop 46 = dktX6_deleted_2 := dk_seg dksX6_deleted_1 22 rfl rfl
theorem dksX6_deleted_3 : cX6_deleted.data.toList.drop 68 = dktX6_deleted_3 := dk_seg dksX6_deleted_2 22 rfl rfl
theorem dX6_deleted_0 : decode cX6_deleted 0 = .ok (.aload_n 0, 1) := dk_42 (dk_at dksX6_deleted_0 0 rfl rfl)
theorem dX6_deleted_1 : decode cX6_deleted 1 = .ok (.getfield 26, 3) := dk_180 0 26 (dk_at dksX6_deleted_0 1 rfl rfl)
theorem dX6_deleted_4 : decode cX6_deleted 4 = .ok (.aload_n 0, 1) := dk_42 (dk_at dksX6_deleted_0 4 rfl rfl)
theorem dX6_deleted_5 : decode cX6_deleted 5 = .ok (.getfield 29, 3) := dk_180 0 29 (dk_at dksX6_deleted_0 5 rfl rfl)
theorem dX6_deleted_8 : decode cX6_deleted 8 = .ok (.if_icmp .ne 31, 3) := dk_160 0 31 (dk_at dksX6_deleted_0 8 rfl rfl)
theorem dX6_deleted_11 : decode cX6_deleted 11 = .ok (.aload_n 0, 1) := dk_42 (dk_at dksX6_deleted_0 11 rfl rfl)
theorem dX6_deleted_12 : decode cX6_deleted 12 = .ok (.getfield 26, 3) := dk_180 0 26 (dk_at dksX6_deleted_0 12 rfl rfl)
theorem dX6_deleted_15 : decode cX6_deleted 15 = .ok (.iload_n 1, 1) := dk_27 (dk_at dksX6_deleted_0 15 rfl rfl)
theorem dX6_deleted_16 : decode cX6_deleted 16 = .ok (.if_icmp .ne 23, 3) := dk_160 0 23 (dk_at dksX6_deleted_0 16 rfl rfl)
theorem dX6_deleted_19 : decode cX6_deleted 19 = .ok (.aload_n 0, 1) := dk_42 (dk_at dksX6_deleted_0 19 rfl rfl)
theorem dX6_deleted_20 : decode cX6_deleted 20 = .ok (.iload_n 1, 1) := dk_27 (dk_at dksX6_deleted_0 20 rfl rfl)
theorem dX6_deleted_21 : decode cX6_deleted 21 = .ok (.iload_n 2, 1) := dk_28 (dk_at dksX6_deleted_0 21 rfl rfl)
theorem dX6_deleted_22 : decode cX6_deleted 22 = .ok (.iconst 1, 1) := dk_4 (dk_at dksX6_deleted_0 22 rfl rfl)
theorem dX6_deleted_23 : decode cX6_deleted 23 = .ok (.isub, 1) := dk_100 (dk_at dksX6_deleted_0 23 rfl rfl)
theorem dX6_deleted_24 : decode cX6_deleted 24 = .ok (.invokestatic 43, 3) := dk_184 0 43 (dk_at dksX6_deleted_1 0 rfl rfl)
theorem dX6_deleted_27 : decode cX6_deleted 27 = .ok (.putfield 26, 3) := dk_181 0 26 (dk_at dksX6_deleted_1 3 rfl rfl)
theorem dX6_deleted_30 : decode cX6_deleted 30 = .ok (.aload_n 0, 1) := dk_42 (dk_at dksX6_deleted_1 6 rfl rfl)
theorem dX6_deleted_31 : decode cX6_deleted 31 = .ok (.aload_n 0, 1) := dk_42 (dk_at dksX6_deleted_1 7 rfl rfl)
theorem dX6_deleted_32 : decode cX6_deleted 32 = .ok (.getfield 26, 3) := dk_180 0 26 (dk_at dksX6_deleted_1 8 rfl rfl)
theorem dX6_deleted_35 : decode cX6_deleted 35 = .ok (.putfield 29, 3) := dk_181 0 29 (dk_at dksX6_deleted_1 11 rfl rfl)
theorem dX6_deleted_38 : decode cX6_deleted 38 = .ok (.return_, 1) := dk_177 (dk_at dksX6_deleted_1 14 rfl rfl)
theorem dX6_deleted_39 : decode cX6_deleted 39 = .ok (.aload_n 0, 1) := dk_42 (dk_at dksX6_deleted_1 15 rfl rfl)
theorem dX6_deleted_40 : decode cX6_deleted 40 = .ok (.dup, 1) := dk_89 (dk_at dksX6_deleted_1 16 rfl rfl)
theorem dX6_deleted_41 : decode cX6_deleted 41 = .ok (.getfield 29, 3) := dk_180 0 29 (dk_at dksX6_deleted_1 17 rfl rfl)
theorem dX6_deleted_44 : decode cX6_deleted 44 = .ok (.iload_n 1, 1) := dk_27 (dk_at dksX6_deleted_1 20 rfl rfl)
theorem dX6_deleted_45 : decode cX6_deleted 45 = .ok (.aload_n 0, 1) := dk_42 (dk_at dksX6_deleted_1 21 rfl rfl)
theorem dX6_deleted_46 : decode cX6_deleted 46 = .ok (.getfield 29, 3) := dk_180 0 29 (dk_at dksX6_deleted_2 0 rfl rfl)
theorem dX6_deleted_49 : decode cX6_deleted 49 = .ok (.if_icmp .gt 7, 3) := dk_163 0 7 (dk_at dksX6_deleted_2 3 rfl rfl)
theorem dX6_deleted_52 : decode cX6_deleted 52 = .ok (.iconst 1, 1) := dk_4 (dk_at dksX6_deleted_2 6 rfl rfl)
theorem dX6_deleted_53 : decode cX6_deleted 53 = .ok (.goto 4, 3) := dk_167 0 4 (dk_at dksX6_deleted_2 7 rfl rfl)
theorem dX6_deleted_56 : decode cX6_deleted 56 = .ok (.iconst 0, 1) := dk_3 (dk_at dksX6_deleted_2 10 rfl rfl)
theorem dX6_deleted_57 : decode cX6_deleted 57 = .ok (.isub, 1) := dk_100 (dk_at dksX6_deleted_2 11 rfl rfl)
theorem dX6_deleted_58 : decode cX6_deleted 58 = .ok (.putfield 29, 3) := dk_181 0 29 (dk_at dksX6_deleted_2 12 rfl rfl)
theorem dX6_deleted_61 : decode cX6_deleted 61 = .ok (.aload_n 0, 1) := dk_42 (dk_at dksX6_deleted_2 15 rfl rfl)
theorem dX6_deleted_62 : decode cX6_deleted 62 = .ok (.dup, 1) := dk_89 (dk_at dksX6_deleted_2 16 rfl rfl)
theorem dX6_deleted_63 : decode cX6_deleted 63 = .ok (.getfield 26, 3) := dk_180 0 26 (dk_at dksX6_deleted_2 17 rfl rfl)
theorem dX6_deleted_66 : decode cX6_deleted 66 = .ok (.iload_n 1, 1) := dk_27 (dk_at dksX6_deleted_2 20 rfl rfl)
theorem dX6_deleted_67 : decode cX6_deleted 67 = .ok (.aload_n 0, 1) := dk_42 (dk_at dksX6_deleted_2 21 rfl rfl)
theorem dX6_deleted_68 : decode cX6_deleted 68 = .ok (.getfield 26, 3) := dk_180 0 26 (dk_at dksX6_deleted_3 0 rfl rfl)
theorem dX6_deleted_71 : decode cX6_deleted 71 = .ok (.if_icmp .ge 7, 3) := dk_162 0 7 (dk_at dksX6_deleted_3 3 rfl rfl)
theorem dX6_deleted_74 : decode cX6_deleted 74 = .ok (.iconst 1, 1) := dk_4 (dk_at dksX6_deleted_3 6 rfl rfl)
theorem dX6_deleted_75 : decode cX6_deleted 75 = .ok (.goto 4, 3) := dk_167 0 4 (dk_at dksX6_deleted_3 7 rfl rfl)
theorem dX6_deleted_78 : decode cX6_deleted 78 = .ok (.iconst 0, 1) := dk_3 (dk_at dksX6_deleted_3 10 rfl rfl)
theorem dX6_deleted_79 : decode cX6_deleted 79 = .ok (.isub, 1) := dk_100 (dk_at dksX6_deleted_3 11 rfl rfl)
theorem dX6_deleted_80 : decode cX6_deleted 80 = .ok (.putfield 26, 3) := dk_181 0 26 (dk_at dksX6_deleted_3 12 rfl rfl)
theorem dX6_deleted_83 : decode cX6_deleted 83 = .ok (.return_, 1) := dk_177 (dk_at dksX6_deleted_3 15 rfl rfl)
theorem q159 : (Jvm.Cond.initialized "NoteImporter$Note") ∈ lw_all := lw_g (lw_at lw_m1 40 rfl) rfl
theorem q854 : (Jvm.Cond.selects "NoteImporter$Note" ({ cls := "java/lang/Object", name := "getClass", desc := "()Ljava/lang/Class;" } : Jvm.MethodName) ({ cls := "java/lang/Object", name := "getClass", desc := "()Ljava/lang/Class;" } : Jvm.MethodName)) ∈ lw_all := lw_g (lw_at lw_m4 15 rfl) rfl
theorem q1194 : (Jvm.Cond.selects "NoteImporter$Note" ({ cls := "java/lang/Object", name := "hashCode", desc := "()I" } : Jvm.MethodName) ({ cls := "java/lang/Object", name := "hashCode", desc := "()I" } : Jvm.MethodName)) ∈ lw_all := lw_g (lw_at lw_m5 115 rfl) rfl
theorem q1296 : (Jvm.Cond.selects "NoteImporter$Note" ({ cls := "java/lang/Object", name := "equals", desc := "(Ljava/lang/Object;)Z" } : Jvm.MethodName) ({ cls := "java/lang/Object", name := "equals", desc := "(Ljava/lang/Object;)Z" } : Jvm.MethodName)) ∈ lw_all := lw_g (lw_at lw_m5 217 rfl) rfl
theorem q2002 : (Jvm.Cond.instanceMethod ({ cls := "NoteImporter$Note", name := "copy", desc := "()LNoteImporter$Note;" } : Jvm.MethodName)) ∈ lw_all := lw_g (lw_at lw_m8 203 rfl) rfl
theorem q2003 : (Jvm.Cond.selects "NoteImporter$Note" ({ cls := "NoteImporter$Note", name := "copy", desc := "()LNoteImporter$Note;" } : Jvm.MethodName) ({ cls := "NoteImporter$Note", name := "copy", desc := "()LNoteImporter$Note;" } : Jvm.MethodName)) ∈ lw_all := lw_g (lw_at lw_m8 204 rfl) rfl
theorem q2004 : (Jvm.Cond.code ({ cls := "NoteImporter$Note", name := "copy", desc := "()LNoteImporter$Note;" } : Jvm.MethodName) prog_11_method_2_code (1 : Nat) (Option.some (Jvm.ClassFile.FieldType.object "NoteImporter$Note"))) ∈ lw_all := lw_g (lw_at lw_m8 205 rfl) rfl
theorem q2005 : (Jvm.Cond.classLink "NoteImporter$Note" (11 : Nat) "NoteImporter$Note") ∈ lw_all := lw_g (lw_at lw_m8 206 rfl) rfl
theorem q2006 : (Jvm.Cond.instantiable "NoteImporter$Note" (7 : Nat)) ∈ lw_all := lw_g (lw_at lw_m8 207 rfl) rfl
theorem q2007 : (Jvm.Cond.methodLink "NoteImporter$Note" (40 : Nat) ({ cls := "NoteImporter$Note", name := "<init>", desc := "(IIIIILjava/util/ArrayList;)V" } : Jvm.MethodName)) ∈ lw_all := lw_g (lw_at lw_m8 208 rfl) rfl
theorem q2008 : (Jvm.Cond.instanceMethod ({ cls := "NoteImporter$Note", name := "<init>", desc := "(IIIIILjava/util/ArrayList;)V" } : Jvm.MethodName)) ∈ lw_all := lw_g (lw_at lw_m8 209 rfl) rfl
theorem q2009 : (Jvm.Cond.code ({ cls := "NoteImporter$Note", name := "<init>", desc := "(IIIIILjava/util/ArrayList;)V" } : Jvm.MethodName) prog_11_method_1_code (7 : Nat) (Option.none : Option Jvm.ClassFile.FieldType)) ∈ lw_all := lw_g (lw_at lw_m8 210 rfl) rfl
theorem q2010 : (Jvm.Cond.methodLink "NoteImporter$Note" (1 : Nat) ({ cls := "java/lang/Object", name := "<init>", desc := "()V" } : Jvm.MethodName)) ∈ lw_all := lw_g (lw_at lw_m8 211 rfl) rfl
theorem q2011 : (Jvm.Cond.classLink "NoteImporter$Note" (7 : Nat) "java/util/HashSet") ∈ lw_all := lw_g (lw_at lw_m8 212 rfl) rfl
theorem q2013 : (Jvm.Cond.methodLink "NoteImporter$Note" (9 : Nat) ({ cls := "java/util/HashSet", name := "<init>", desc := "()V" } : Jvm.MethodName)) ∈ lw_all := lw_g (lw_at lw_m8 214 rfl) rfl
theorem q2023 : (Jvm.Cond.methodLink "NoteImporter$Note" (36 : Nat) ({ cls := "java/util/HashSet", name := "addAll", desc := "(Ljava/util/Collection;)Z" } : Jvm.MethodName)) ∈ lw_all := lw_g (lw_at lw_m8 224 rfl) rfl
theorem q2293 : (Jvm.Cond.fieldLink "NoteImporter$Note" (16 : Nat) "NoteImporter$Note" "reader" "I") ∈ lw_all := lw_g (lw_at lw_m10 14 rfl) rfl
theorem q2297 : (Jvm.Cond.fieldLink "NoteImporter$Note" (20 : Nat) "NoteImporter$Note" "kind" "I") ∈ lw_all := lw_g (lw_at lw_m10 18 rfl) rfl
theorem q2300 : (Jvm.Cond.fieldLink "NoteImporter$Note" (23 : Nat) "NoteImporter$Note" "edition" "I") ∈ lw_all := lw_g (lw_at lw_m10 21 rfl) rfl
theorem q2303 : (Jvm.Cond.fieldLink "NoteImporter$Note" (32 : Nat) "NoteImporter$Note" "said" "Ljava/util/ArrayList;") ∈ lw_all := lw_g (lw_at lw_m10 24 rfl) rfl
theorem q2307 : (Jvm.Cond.fieldLink "NoteImporter$Note" (10 : Nat) "NoteImporter$Note" "different" "Ljava/util/HashSet;") ∈ lw_all := lw_g (lw_at lw_m10 28 rfl) rfl
theorem q2310 : (Jvm.Cond.fieldLink "NoteImporter$Note" (26 : Nat) "NoteImporter$Note" "first" "I") ∈ lw_all := lw_g (lw_at lw_m10 31 rfl) rfl
theorem q2313 : (Jvm.Cond.fieldLink "NoteImporter$Note" (29 : Nat) "NoteImporter$Note" "last" "I") ∈ lw_all := lw_g (lw_at lw_m10 34 rfl) rfl
theorem q2315 : (Jvm.Cond.laysFinal "NoteImporter$Note" "NoteImporter$Note" "reader" "I") ∈ lw_all := lw_g (lw_at lw_m10 36 rfl) rfl
theorem q2316 : (Jvm.Cond.soleField "NoteImporter$Note" "reader") ∈ lw_all := lw_g (lw_at lw_m10 37 rfl) rfl
theorem q2317 : (Jvm.Cond.laysFinal "NoteImporter$Note" "NoteImporter$Note" "kind" "I") ∈ lw_all := lw_g (lw_at lw_m10 38 rfl) rfl
theorem q2318 : (Jvm.Cond.soleField "NoteImporter$Note" "kind") ∈ lw_all := lw_g (lw_at lw_m10 39 rfl) rfl
theorem q2319 : (Jvm.Cond.laysFinal "NoteImporter$Note" "NoteImporter$Note" "edition" "I") ∈ lw_all := lw_g (lw_at lw_m10 40 rfl) rfl
theorem q2320 : (Jvm.Cond.soleField "NoteImporter$Note" "edition") ∈ lw_all := lw_g (lw_at lw_m10 41 rfl) rfl
theorem q2321 : (Jvm.Cond.laysFinal "NoteImporter$Note" "NoteImporter$Note" "said" "Ljava/util/ArrayList;") ∈ lw_all := lw_g (lw_at lw_m10 42 rfl) rfl
theorem q2322 : (Jvm.Cond.soleField "NoteImporter$Note" "said") ∈ lw_all := lw_g (lw_at lw_m10 43 rfl) rfl
theorem q2323 : (Jvm.Cond.laysFinal "NoteImporter$Note" "NoteImporter$Note" "different" "Ljava/util/HashSet;") ∈ lw_all := lw_g (lw_at lw_m10 44 rfl) rfl
theorem q2324 : (Jvm.Cond.soleField "NoteImporter$Note" "different") ∈ lw_all := lw_g (lw_at lw_m10 45 rfl) rfl
theorem q2325 : (Jvm.Cond.lays "NoteImporter$Note" "NoteImporter$Note" "first" "I") ∈ lw_all := lw_g (lw_at lw_m10 46 rfl) rfl
theorem q2326 : (Jvm.Cond.soleField "NoteImporter$Note" "first") ∈ lw_all := lw_g (lw_at lw_m10 47 rfl) rfl
theorem q2327 : (Jvm.Cond.lays "NoteImporter$Note" "NoteImporter$Note" "last" "I") ∈ lw_all := lw_g (lw_at lw_m10 48 rfl) rfl
theorem q2328 : (Jvm.Cond.soleField "NoteImporter$Note" "last") ∈ lw_all := lw_g (lw_at lw_m10 49 rfl) rfl
theorem q2329 : (Jvm.Cond.superclass "NoteImporter$Note" "java/lang/Object") ∈ lw_all := lw_g (lw_at lw_m10 50 rfl) rfl
theorem q2877 : (Jvm.Cond.instanceMethod ({ cls := "NoteImporter$Note", name := "inserted", desc := "(I)V" } : Jvm.MethodName)) ∈ lw_all := lw_g (lw_at lw_m12 118 rfl) rfl
theorem q2878 : (Jvm.Cond.selects "NoteImporter$Note" ({ cls := "NoteImporter$Note", name := "inserted", desc := "(I)V" } : Jvm.MethodName) ({ cls := "NoteImporter$Note", name := "inserted", desc := "(I)V" } : Jvm.MethodName)) ∈ lw_all := lw_g (lw_at lw_m12 119 rfl) rfl
theorem q2879 : (Jvm.Cond.code ({ cls := "NoteImporter$Note", name := "inserted", desc := "(I)V" } : Jvm.MethodName) prog_11_method_3_code (2 : Nat) (Option.none : Option Jvm.ClassFile.FieldType)) ∈ lw_all := lw_g (lw_at lw_m12 120 rfl) rfl
theorem q2896 : (Jvm.Cond.instanceMethod ({ cls := "NoteImporter$Note", name := "deleted", desc := "(II)V" } : Jvm.MethodName)) ∈ lw_all := lw_g (lw_at lw_m12 137 rfl) rfl
theorem q2897 : (Jvm.Cond.selects "NoteImporter$Note" ({ cls := "NoteImporter$Note", name := "deleted", desc := "(II)V" } : Jvm.MethodName) ({ cls := "NoteImporter$Note", name := "deleted", desc := "(II)V" } : Jvm.MethodName)) ∈ lw_all := lw_g (lw_at lw_m12 138 rfl) rfl
theorem q2898 : (Jvm.Cond.code ({ cls := "NoteImporter$Note", name := "deleted", desc := "(II)V" } : Jvm.MethodName) prog_11_method_4_code (3 : Nat) (Option.none : Option Jvm.ClassFile.FieldType)) ∈ lw_all := lw_g (lw_at lw_m12 139 rfl) rfl
theorem q2899 : (Jvm.Cond.methodLink "NoteImporter$Note" (43 : Nat) ({ cls := "java/lang/Math", name := "min", desc := "(II)I" } : Jvm.MethodName)) ∈ lw_all := lw_g (lw_at lw_m12 140 rfl) rfl
theorem q3806 : (Jvm.Cond.castable "NoteImporter$Note" "java/lang/Object") ∈ lw_tbl := lw_at lw_m16 87 rfl
theorem in_X6 : ∀ w ∈ wsX60, w ∈ lw_all := lw_in wsX60 [2315, 2317, 2319, 2321, 2323, 2325, 2327] (by decide +kernel) (by decide +kernel)

/-! NoteImporter$ImportException -/
set_option maxRecDepth 100000
def RX7 : String := "NoteImporter$ImportException"
def TX7 : u_T := fun k => match k with
  | 0 => ("java/lang/Throwable", "cause", "Ljava/lang/Throwable;", false)
  | 1 => ("java/lang/Throwable", "stackTrace", "[Ljava/lang/StackTraceElement;", false)
  | 2 => ("java/lang/Throwable", "suppressedExceptions", "Ljava/util/List;", false)
  | 3 => ("java/lang/Throwable", "detailMessage", "Ljava/lang/String;", false)
  | 4 => ("java/lang/Throwable", "backtrace", "Ljava/lang/Object;", false)
  | 5 => ("java/lang/Throwable", "depth", "I", false)
  | 6 => ("NoteImporter$ImportException", "code", "I", true)
  | _ => ("NoteImporter$ImportException", "position", "I", true)
def tyX7 : Nat → FieldType := fun k => match k with
  | 0 => .object "java/lang/Throwable"
  | 1 => .array (.object "java/lang/StackTraceElement")
  | 2 => .object "java/util/List"
  | 3 => .object "java/lang/String"
  | 4 => .object "java/lang/Object"
  | 5 => .int
  | 6 => .int
  | _ => .int
abbrev wsX70 : List Cond := u_ws RX7 TX7 8
theorem nmX7 : ∀ a, a < 8 → ∀ b, b < 8 → a ≠ b → (TX7 a).2.1 ≠ (TX7 b).2.1 := by decide +kernel
theorem tyX7_ok : ∀ k, k < 8 → parseFieldDescriptor (TX7 k).2.2.1 = some (tyX7 k) := by decide +kernel
abbrev cX7_init : ByteArray := prog_8_method_1_code
def yX7_init : MethodName := ⟨RX7, "<init>", "(IILjava/lang/Exception;)V"⟩
def dkwX7_init_0 : List UInt8 := [42, 1, 45, 3, 3, 183, 0, 1, 42, 27, 181, 0, 7, 42, 28, 181, 0, 13, 177]
abbrev dktX7_init_0 : List UInt8 := dkwX7_init_0 ++ []
theorem dksX7_init_0 : cX7_init.data.toList.drop 0 = dktX7_init_0 := by decide +kernel
theorem dX7_init_0 : decode cX7_init 0 = .ok (.aload_n 0, 1) := dk_42 (dk_at dksX7_init_0 0 rfl rfl)
theorem dX7_init_1 : decode cX7_init 1 = .ok (.aconst_null, 1) := dk_1 (dk_at dksX7_init_0 1 rfl rfl)
theorem dX7_init_2 : decode cX7_init 2 = .ok (.aload_n 3, 1) := dk_45 (dk_at dksX7_init_0 2 rfl rfl)
theorem dX7_init_3 : decode cX7_init 3 = .ok (.iconst 0, 1) := dk_3 (dk_at dksX7_init_0 3 rfl rfl)
theorem dX7_init_4 : decode cX7_init 4 = .ok (.iconst 0, 1) := dk_3 (dk_at dksX7_init_0 4 rfl rfl)
theorem dX7_init_5 : decode cX7_init 5 = .ok (.invokespecial 1, 3) := dk_183 0 1 (dk_at dksX7_init_0 5 rfl rfl)
theorem dX7_init_8 : decode cX7_init 8 = .ok (.aload_n 0, 1) := dk_42 (dk_at dksX7_init_0 8 rfl rfl)
theorem dX7_init_9 : decode cX7_init 9 = .ok (.iload_n 1, 1) := dk_27 (dk_at dksX7_init_0 9 rfl rfl)
theorem dX7_init_10 : decode cX7_init 10 = .ok (.putfield 7, 3) := dk_181 0 7 (dk_at dksX7_init_0 10 rfl rfl)
theorem dX7_init_13 : decode cX7_init 13 = .ok (.aload_n 0, 1) := dk_42 (dk_at dksX7_init_0 13 rfl rfl)
theorem dX7_init_14 : decode cX7_init 14 = .ok (.iload_n 2, 1) := dk_28 (dk_at dksX7_init_0 14 rfl rfl)
theorem dX7_init_15 : decode cX7_init 15 = .ok (.putfield 13, 3) := dk_181 0 13 (dk_at dksX7_init_0 15 rfl rfl)
theorem dX7_init_18 : decode cX7_init 18 = .ok (.return_, 1) := dk_177 (dk_at dksX7_init_0 18 rfl rfl)
theorem q173 : (Jvm.Cond.initialized "NoteImporter$ImportException") ∈ lw_all := lw_g (lw_at lw_m1 54 rfl) rfl
theorem q250 : (Jvm.Cond.selects "NoteImporter$ImportException" ({ cls := "java/lang/Throwable", name := "fillInStackTrace", desc := "()Ljava/lang/Throwable;" } : Jvm.MethodName) ({ cls := "java/lang/Throwable", name := "fillInStackTrace", desc := "()Ljava/lang/Throwable;" } : Jvm.MethodName)) ∈ lw_all := lw_g (lw_at lw_m1 131 rfl) rfl
theorem q851 : (Jvm.Cond.selects "NoteImporter$ImportException" ({ cls := "java/lang/Object", name := "getClass", desc := "()Ljava/lang/Class;" } : Jvm.MethodName) ({ cls := "java/lang/Object", name := "getClass", desc := "()Ljava/lang/Class;" } : Jvm.MethodName)) ∈ lw_all := lw_g (lw_at lw_m4 12 rfl) rfl
theorem q1186 : (Jvm.Cond.selects "NoteImporter$ImportException" ({ cls := "java/lang/Object", name := "hashCode", desc := "()I" } : Jvm.MethodName) ({ cls := "java/lang/Object", name := "hashCode", desc := "()I" } : Jvm.MethodName)) ∈ lw_all := lw_g (lw_at lw_m5 107 rfl) rfl
theorem q1291 : (Jvm.Cond.selects "NoteImporter$ImportException" ({ cls := "java/lang/Object", name := "equals", desc := "(Ljava/lang/Object;)Z" } : Jvm.MethodName) ({ cls := "java/lang/Object", name := "equals", desc := "(Ljava/lang/Object;)Z" } : Jvm.MethodName)) ∈ lw_all := lw_g (lw_at lw_m5 212 rfl) rfl
theorem q2433 : (Jvm.Cond.instantiable "NoteImporter$ImportException" (8 : Nat)) ∈ lw_all := lw_g (lw_at lw_m10 154 rfl) rfl
theorem q2434 : (Jvm.Cond.castable "NoteImporter$ImportException" "NoteImporter$ImportException") ∈ lw_tbl := lw_at lw_m10 155 rfl
theorem q2435 : (Jvm.Cond.selects "NoteImporter$ImportException" ({ cls := "java/lang/Throwable", name := "fillInStackTrace", desc := "(I)Ljava/lang/Throwable;" } : Jvm.MethodName) ({ cls := "java/lang/Throwable", name := "fillInStackTrace", desc := "(I)Ljava/lang/Throwable;" } : Jvm.MethodName)) ∈ lw_all := lw_g (lw_at lw_m10 156 rfl) rfl
theorem q2436 : (Jvm.Cond.lays "NoteImporter$ImportException" "java/lang/Throwable" "cause" "Ljava/lang/Throwable;") ∈ lw_all := lw_g (lw_at lw_m10 157 rfl) rfl
theorem q2437 : (Jvm.Cond.lays "NoteImporter$ImportException" "java/lang/Throwable" "stackTrace" "[Ljava/lang/StackTraceElement;") ∈ lw_all := lw_g (lw_at lw_m10 158 rfl) rfl
theorem q2438 : (Jvm.Cond.lays "NoteImporter$ImportException" "java/lang/Throwable" "suppressedExceptions" "Ljava/util/List;") ∈ lw_all := lw_g (lw_at lw_m10 159 rfl) rfl
theorem q2439 : (Jvm.Cond.lays "NoteImporter$ImportException" "java/lang/Throwable" "detailMessage" "Ljava/lang/String;") ∈ lw_all := lw_g (lw_at lw_m10 160 rfl) rfl
theorem q2440 : (Jvm.Cond.lays "NoteImporter$ImportException" "java/lang/Throwable" "backtrace" "Ljava/lang/Object;") ∈ lw_all := lw_g (lw_at lw_m10 161 rfl) rfl
theorem q2442 : (Jvm.Cond.instanceMethod ({ cls := "NoteImporter$ImportException", name := "<init>", desc := "(IILjava/lang/Exception;)V" } : Jvm.MethodName)) ∈ lw_all := lw_g (lw_at lw_m10 163 rfl) rfl
theorem q2443 : (Jvm.Cond.code ({ cls := "NoteImporter$ImportException", name := "<init>", desc := "(IILjava/lang/Exception;)V" } : Jvm.MethodName) prog_8_method_1_code (4 : Nat) (Option.none : Option Jvm.ClassFile.FieldType)) ∈ lw_all := lw_g (lw_at lw_m10 164 rfl) rfl
theorem q2444 : (Jvm.Cond.methodLink "NoteImporter$ImportException" (1 : Nat) ({ cls := "java/lang/Exception", name := "<init>", desc := "(Ljava/lang/String;Ljava/lang/Throwable;ZZ)V" } : Jvm.MethodName)) ∈ lw_all := lw_g (lw_at lw_m10 165 rfl) rfl
theorem q2450 : (Jvm.Cond.fieldLink "NoteImporter$ImportException" (7 : Nat) "NoteImporter$ImportException" "code" "I") ∈ lw_all := lw_g (lw_at lw_m10 171 rfl) rfl
theorem q2452 : (Jvm.Cond.fieldLink "NoteImporter$ImportException" (13 : Nat) "NoteImporter$ImportException" "position" "I") ∈ lw_all := lw_g (lw_at lw_m10 173 rfl) rfl
theorem q2454 : (Jvm.Cond.laysFinal "NoteImporter$ImportException" "NoteImporter$ImportException" "code" "I") ∈ lw_all := lw_g (lw_at lw_m10 175 rfl) rfl
theorem q2455 : (Jvm.Cond.soleField "NoteImporter$ImportException" "code") ∈ lw_all := lw_g (lw_at lw_m10 176 rfl) rfl
theorem q2456 : (Jvm.Cond.laysFinal "NoteImporter$ImportException" "NoteImporter$ImportException" "position" "I") ∈ lw_all := lw_g (lw_at lw_m10 177 rfl) rfl
theorem q2457 : (Jvm.Cond.soleField "NoteImporter$ImportException" "position") ∈ lw_all := lw_g (lw_at lw_m10 178 rfl) rfl
theorem q2458 : (Jvm.Cond.lays "NoteImporter$ImportException" "java/lang/Throwable" "depth" "I") ∈ lw_all := lw_g (lw_at lw_m10 179 rfl) rfl
theorem q2459 : (Jvm.Cond.superclass "NoteImporter$ImportException" "java/lang/Exception") ∈ lw_all := lw_g (lw_at lw_m10 180 rfl) rfl
theorem q3814 : (Jvm.Cond.castable "NoteImporter$ImportException" "java/lang/Object") ∈ lw_tbl := lw_at lw_m16 95 rfl
theorem in_X7 : ∀ w ∈ wsX70, w ∈ lw_all := lw_in wsX70 [2436, 2437, 2438, 2439, 2440, 2458, 2454, 2456] (by decide +kernel) (by decide +kernel)

/-! NoteImporter$WordException -/
set_option maxRecDepth 100000
def RX8 : String := "NoteImporter$WordException"
def TX8 : u_T := fun k => match k with
  | 0 => ("java/lang/Throwable", "cause", "Ljava/lang/Throwable;", false)
  | 1 => ("java/lang/Throwable", "stackTrace", "[Ljava/lang/StackTraceElement;", false)
  | 2 => ("java/lang/Throwable", "suppressedExceptions", "Ljava/util/List;", false)
  | 3 => ("java/lang/Throwable", "detailMessage", "Ljava/lang/String;", false)
  | 4 => ("java/lang/Throwable", "backtrace", "Ljava/lang/Object;", false)
  | _ => ("java/lang/Throwable", "depth", "I", false)
def tyX8 : Nat → FieldType := fun k => match k with
  | 0 => .object "java/lang/Throwable"
  | 1 => .array (.object "java/lang/StackTraceElement")
  | 2 => .object "java/util/List"
  | 3 => .object "java/lang/String"
  | 4 => .object "java/lang/Object"
  | _ => .int
abbrev wsX80 : List Cond := u_ws RX8 TX8 6
theorem nmX8 : ∀ a, a < 6 → ∀ b, b < 6 → a ≠ b → (TX8 a).2.1 ≠ (TX8 b).2.1 := by decide +kernel
theorem tyX8_ok : ∀ k, k < 6 → parseFieldDescriptor (TX8 k).2.2.1 = some (tyX8 k) := by decide +kernel
abbrev cX8_init : ByteArray := prog_14_method_1_code
def yX8_init : MethodName := ⟨RX8, "<init>", "()V"⟩
def dkwX8_init_0 : List UInt8 := [42, 1, 1, 3, 3, 183, 0, 1, 177]
abbrev dktX8_init_0 : List UInt8 := dkwX8_init_0 ++ []
theorem dksX8_init_0 : cX8_init.data.toList.drop 0 = dktX8_init_0 := by decide +kernel
theorem dX8_init_0 : decode cX8_init 0 = .ok (.aload_n 0, 1) := dk_42 (dk_at dksX8_init_0 0 rfl rfl)
theorem dX8_init_1 : decode cX8_init 1 = .ok (.aconst_null, 1) := dk_1 (dk_at dksX8_init_0 1 rfl rfl)
theorem dX8_init_2 : decode cX8_init 2 = .ok (.aconst_null, 1) := dk_1 (dk_at dksX8_init_0 2 rfl rfl)
theorem dX8_init_3 : decode cX8_init 3 = .ok (.iconst 0, 1) := dk_3 (dk_at dksX8_init_0 3 rfl rfl)
theorem dX8_init_4 : decode cX8_init 4 = .ok (.iconst 0, 1) := dk_3 (dk_at dksX8_init_0 4 rfl rfl)
theorem dX8_init_5 : decode cX8_init 5 = .ok (.invokespecial 1, 3) := dk_183 0 1 (dk_at dksX8_init_0 5 rfl rfl)
theorem dX8_init_8 : decode cX8_init 8 = .ok (.return_, 1) := dk_177 (dk_at dksX8_init_0 8 rfl rfl)
theorem q174 : (Jvm.Cond.initialized "NoteImporter$WordException") ∈ lw_all := lw_g (lw_at lw_m1 55 rfl) rfl
theorem q251 : (Jvm.Cond.selects "NoteImporter$WordException" ({ cls := "java/lang/Throwable", name := "fillInStackTrace", desc := "()Ljava/lang/Throwable;" } : Jvm.MethodName) ({ cls := "java/lang/Throwable", name := "fillInStackTrace", desc := "()Ljava/lang/Throwable;" } : Jvm.MethodName)) ∈ lw_all := lw_g (lw_at lw_m1 132 rfl) rfl
theorem q857 : (Jvm.Cond.selects "NoteImporter$WordException" ({ cls := "java/lang/Object", name := "getClass", desc := "()Ljava/lang/Class;" } : Jvm.MethodName) ({ cls := "java/lang/Object", name := "getClass", desc := "()Ljava/lang/Class;" } : Jvm.MethodName)) ∈ lw_all := lw_g (lw_at lw_m4 18 rfl) rfl
theorem q1197 : (Jvm.Cond.selects "NoteImporter$WordException" ({ cls := "java/lang/Object", name := "hashCode", desc := "()I" } : Jvm.MethodName) ({ cls := "java/lang/Object", name := "hashCode", desc := "()I" } : Jvm.MethodName)) ∈ lw_all := lw_g (lw_at lw_m5 118 rfl) rfl
theorem q1299 : (Jvm.Cond.selects "NoteImporter$WordException" ({ cls := "java/lang/Object", name := "equals", desc := "(Ljava/lang/Object;)Z" } : Jvm.MethodName) ({ cls := "java/lang/Object", name := "equals", desc := "(Ljava/lang/Object;)Z" } : Jvm.MethodName)) ∈ lw_all := lw_g (lw_at lw_m5 220 rfl) rfl
theorem q2481 : (Jvm.Cond.instantiable "NoteImporter$WordException" (6 : Nat)) ∈ lw_all := lw_g (lw_at lw_m10 202 rfl) rfl
theorem q2482 : (Jvm.Cond.castable "NoteImporter$WordException" "NoteImporter$WordException") ∈ lw_tbl := lw_at lw_m10 203 rfl
theorem q2483 : (Jvm.Cond.selects "NoteImporter$WordException" ({ cls := "java/lang/Throwable", name := "fillInStackTrace", desc := "(I)Ljava/lang/Throwable;" } : Jvm.MethodName) ({ cls := "java/lang/Throwable", name := "fillInStackTrace", desc := "(I)Ljava/lang/Throwable;" } : Jvm.MethodName)) ∈ lw_all := lw_g (lw_at lw_m10 204 rfl) rfl
theorem q2484 : (Jvm.Cond.lays "NoteImporter$WordException" "java/lang/Throwable" "cause" "Ljava/lang/Throwable;") ∈ lw_all := lw_g (lw_at lw_m10 205 rfl) rfl
theorem q2485 : (Jvm.Cond.lays "NoteImporter$WordException" "java/lang/Throwable" "stackTrace" "[Ljava/lang/StackTraceElement;") ∈ lw_all := lw_g (lw_at lw_m10 206 rfl) rfl
theorem q2486 : (Jvm.Cond.lays "NoteImporter$WordException" "java/lang/Throwable" "suppressedExceptions" "Ljava/util/List;") ∈ lw_all := lw_g (lw_at lw_m10 207 rfl) rfl
theorem q2487 : (Jvm.Cond.lays "NoteImporter$WordException" "java/lang/Throwable" "detailMessage" "Ljava/lang/String;") ∈ lw_all := lw_g (lw_at lw_m10 208 rfl) rfl
theorem q2488 : (Jvm.Cond.lays "NoteImporter$WordException" "java/lang/Throwable" "backtrace" "Ljava/lang/Object;") ∈ lw_all := lw_g (lw_at lw_m10 209 rfl) rfl
theorem q2490 : (Jvm.Cond.instanceMethod ({ cls := "NoteImporter$WordException", name := "<init>", desc := "()V" } : Jvm.MethodName)) ∈ lw_all := lw_g (lw_at lw_m10 211 rfl) rfl
theorem q2491 : (Jvm.Cond.code ({ cls := "NoteImporter$WordException", name := "<init>", desc := "()V" } : Jvm.MethodName) prog_14_method_1_code (1 : Nat) (Option.none : Option Jvm.ClassFile.FieldType)) ∈ lw_all := lw_g (lw_at lw_m10 212 rfl) rfl
theorem q2492 : (Jvm.Cond.methodLink "NoteImporter$WordException" (1 : Nat) ({ cls := "java/lang/Exception", name := "<init>", desc := "(Ljava/lang/String;Ljava/lang/Throwable;ZZ)V" } : Jvm.MethodName)) ∈ lw_all := lw_g (lw_at lw_m10 213 rfl) rfl
theorem q2493 : (Jvm.Cond.lays "NoteImporter$WordException" "java/lang/Throwable" "depth" "I") ∈ lw_all := lw_g (lw_at lw_m10 214 rfl) rfl
theorem q2494 : (Jvm.Cond.superclass "NoteImporter$WordException" "java/lang/Exception") ∈ lw_all := lw_g (lw_at lw_m10 215 rfl) rfl
theorem q3815 : (Jvm.Cond.castable "NoteImporter$WordException" "java/lang/Object") ∈ lw_tbl := lw_at lw_m16 96 rfl
theorem in_X8 : ∀ w ∈ wsX80, w ∈ lw_all := lw_in wsX80 [2484, 2485, 2486, 2487, 2488, 2493] (by decide +kernel) (by decide +kernel)

/-! NoteImporter$Kind -/
set_option maxRecDepth 100000
def RX9 : String := "NoteImporter$Kind"
abbrev cX9_values : ByteArray := prog_9_method_1_code
def yX9_values : MethodName := ⟨RX9, "values", "()[LNoteImporter$Kind;"⟩
def dkwX9_values_0 : List UInt8 := [178, 0, 16, 182, 0, 20, 192, 0, 21, 176]
abbrev dktX9_values_0 : List UInt8 := dkwX9_values_0 ++ []
theorem dksX9_values_0 : cX9_values.data.toList.drop 0 = dktX9_values_0 := by decide +kernel
theorem dX9_values_0 : decode cX9_values 0 = .ok (.getstatic 16, 3) := dk_178 0 16 (dk_at dksX9_values_0 0 rfl rfl)
theorem dX9_values_3 : decode cX9_values 3 = .ok (.invokevirtual 20, 3) := dk_182 0 20 (dk_at dksX9_values_0 3 rfl rfl)
theorem dX9_values_6 : decode cX9_values 6 = .ok (.checkcast 21, 3) := dk_192 0 21 (dk_at dksX9_values_0 6 rfl rfl)
theorem dX9_values_9 : decode cX9_values 9 = .ok (.areturn, 1) := dk_176 (dk_at dksX9_values_0 9 rfl rfl)
theorem q176 : (Jvm.Cond.initialized "NoteImporter$Kind") ∈ lw_all := lw_g (lw_at lw_m1 57 rfl) rfl
theorem q852 : (Jvm.Cond.selects "NoteImporter$Kind" ({ cls := "java/lang/Object", name := "getClass", desc := "()Ljava/lang/Class;" } : Jvm.MethodName) ({ cls := "java/lang/Object", name := "getClass", desc := "()Ljava/lang/Class;" } : Jvm.MethodName)) ∈ lw_all := lw_g (lw_at lw_m4 13 rfl) rfl
theorem q1187 : (Jvm.Cond.selects "NoteImporter$Kind" ({ cls := "java/lang/Object", name := "hashCode", desc := "()I" } : Jvm.MethodName) ({ cls := "java/lang/Enum", name := "hashCode", desc := "()I" } : Jvm.MethodName)) ∈ lw_all := lw_g (lw_at lw_m5 108 rfl) rfl
theorem q1292 : (Jvm.Cond.selects "NoteImporter$Kind" ({ cls := "java/lang/Object", name := "equals", desc := "(Ljava/lang/Object;)Z" } : Jvm.MethodName) ({ cls := "java/lang/Enum", name := "equals", desc := "(Ljava/lang/Object;)Z" } : Jvm.MethodName)) ∈ lw_all := lw_g (lw_at lw_m5 213 rfl) rfl
theorem q1350 : (Jvm.Cond.castable "NoteImporter$Kind" "java/lang/Comparable") ∈ lw_tbl := lw_at lw_m6 31 rfl
theorem q1351 : (Jvm.Cond.selects "NoteImporter$Kind" ({ cls := "java/lang/Comparable", name := "compareTo", desc := "(Ljava/lang/Object;)I" } : Jvm.MethodName) ({ cls := "java/lang/Enum", name := "compareTo", desc := "(Ljava/lang/Object;)I" } : Jvm.MethodName)) ∈ lw_all := lw_g (lw_at lw_m6 32 rfl) rfl
theorem q1352 : (Jvm.Cond.unhidden "NoteImporter$Kind" "compareTo" "(Ljava/lang/Object;)I") ∈ lw_tbl := lw_at lw_m6 33 rfl
theorem q1360 : (Jvm.Cond.selects "NoteImporter$Kind" ({ cls := "java/lang/Enum", name := "compareTo", desc := "(Ljava/lang/Enum;)I" } : Jvm.MethodName) ({ cls := "java/lang/Enum", name := "compareTo", desc := "(Ljava/lang/Enum;)I" } : Jvm.MethodName)) ∈ lw_all := lw_g (lw_at lw_m6 41 rfl) rfl
theorem q1366 : (Jvm.Cond.selects "NoteImporter$Kind" ({ cls := "java/lang/Enum", name := "getDeclaringClass", desc := "()Ljava/lang/Class;" } : Jvm.MethodName) ({ cls := "java/lang/Enum", name := "getDeclaringClass", desc := "()Ljava/lang/Class;" } : Jvm.MethodName)) ∈ lw_all := lw_g (lw_at lw_m6 47 rfl) rfl
theorem q2531 : (Jvm.Cond.static ({ cls := "NoteImporter$Kind", name := "values", desc := "()[LNoteImporter$Kind;" } : Jvm.MethodName)) ∈ lw_all := lw_g (lw_at lw_m11 12 rfl) rfl
theorem q2532 : (Jvm.Cond.code ({ cls := "NoteImporter$Kind", name := "values", desc := "()[LNoteImporter$Kind;" } : Jvm.MethodName) prog_9_method_1_code (0 : Nat) (Option.some (Jvm.ClassFile.FieldType.array (Jvm.ClassFile.FieldType.object "NoteImporter$Kind")))) ∈ lw_all := lw_g (lw_at lw_m11 13 rfl) rfl
theorem q2533 : (Jvm.Cond.fieldLink "NoteImporter$Kind" (16 : Nat) "NoteImporter$Kind" "$VALUES" "[LNoteImporter$Kind;") ∈ lw_all := lw_g (lw_at lw_m11 14 rfl) rfl
theorem q2534 : (Jvm.Cond.laysStatic "NoteImporter$Kind" "$VALUES" "[LNoteImporter$Kind;") ∈ lw_tbl := lw_at lw_m11 15 rfl
theorem q2535 : (Jvm.Cond.methodLink "NoteImporter$Kind" (20 : Nat) ({ cls := "[LNoteImporter$Kind;", name := "clone", desc := "()Ljava/lang/Object;" } : Jvm.MethodName)) ∈ lw_all := lw_g (lw_at lw_m11 16 rfl) rfl
theorem q2540 : (Jvm.Cond.classLink "NoteImporter$Kind" (21 : Nat) "[LNoteImporter$Kind;") ∈ lw_all := lw_g (lw_at lw_m11 21 rfl) rfl
theorem q2542 : (Jvm.Cond.sameMethod "NoteImporter$Kind" "java/lang/Enum" "ordinal" "()I") ∈ lw_all := lw_g (lw_at lw_m11 23 rfl) rfl
theorem q2544 : (Jvm.Cond.selects "NoteImporter$Kind" ({ cls := "NoteImporter$Kind", name := "ordinal", desc := "()I" } : Jvm.MethodName) ({ cls := "java/lang/Enum", name := "ordinal", desc := "()I" } : Jvm.MethodName)) ∈ lw_all := lw_g (lw_at lw_m11 25 rfl) rfl
theorem q3789 : (Jvm.Cond.castable "NoteImporter$Kind" "java/lang/Enum") ∈ lw_tbl := lw_at lw_m16 70 rfl
theorem q3794 : (Jvm.Cond.castable "NoteImporter$Kind" "java/lang/Object") ∈ lw_tbl := lw_at lw_m16 75 rfl
theorem q3856 : (Jvm.Cond.laysStatic "NoteImporter$Kind" "MARK" "LNoteImporter$Kind;") ∈ lw_tbl := lw_at lw_m16 137 rfl
theorem q3857 : (Jvm.Cond.laysStatic "NoteImporter$Kind" "COMMENT" "LNoteImporter$Kind;") ∈ lw_tbl := lw_at lw_m16 138 rfl
theorem q3858 : (Jvm.Cond.laysStatic "NoteImporter$Kind" "QUESTION" "LNoteImporter$Kind;") ∈ lw_tbl := lw_at lw_m16 139 rfl
theorem q3859 : (Jvm.Cond.laysStatic "NoteImporter$Kind" "CORRECTION" "LNoteImporter$Kind;") ∈ lw_tbl := lw_at lw_m16 140 rfl
theorem q3860 : (Jvm.Cond.stringRef "NoteImporter$Kind" (40 : Nat) "mark") ∈ lw_tbl := lw_at lw_m16 141 rfl
theorem q3861 : (Jvm.Cond.stringRef "NoteImporter$Kind" (46 : Nat) "comment") ∈ lw_tbl := lw_at lw_m16 142 rfl
theorem q3862 : (Jvm.Cond.stringRef "NoteImporter$Kind" (49 : Nat) "question") ∈ lw_tbl := lw_at lw_m16 143 rfl
theorem q3863 : (Jvm.Cond.stringRef "NoteImporter$Kind" (52 : Nat) "correction") ∈ lw_tbl := lw_at lw_m16 144 rfl

/-! NoteImporter$View -/
set_option maxRecDepth 100000
def RX10 : String := "NoteImporter$View"
def TX10 : u_T := fun k => match k with
  | 0 => ("NoteImporter$View", "library", "LNoteImporter$Library;", true)
  | 1 => ("NoteImporter$View", "alignments", "[LNoteImporter$Alignment;", true)
  | 2 => ("NoteImporter$View", "anchors", "[LNoteImporter$Anchor;", true)
  | 3 => ("NoteImporter$View", "groupOf", "[I", true)
  | _ => ("NoteImporter$View", "groups", "Ljava/util/ArrayList;", true)
def tyX10 : Nat → FieldType := fun k => match k with
  | 0 => .object "NoteImporter$Library"
  | 1 => .array (.object "NoteImporter$Alignment")
  | 2 => .array (.object "NoteImporter$Anchor")
  | 3 => .array .int
  | _ => .object "java/util/ArrayList"
abbrev wsX100 : List Cond := u_ws RX10 TX10 5
theorem nmX10 : ∀ a, a < 5 → ∀ b, b < 5 → a ≠ b → (TX10 a).2.1 ≠ (TX10 b).2.1 := by decide +kernel
theorem tyX10_ok : ∀ k, k < 5 → parseFieldDescriptor (TX10 k).2.2.1 = some (tyX10 k) := by decide +kernel
abbrev cX10_init : ByteArray := prog_13_method_1_code
def yX10_init : MethodName := ⟨RX10, "<init>", "(LNoteImporter$Library;)V"⟩
def dkwX10_init_8 : List UInt8 := [132, 2, 1, 167, 255, 227, 42, 182, 0, 77, 177]
abbrev dktX10_init_8 : List UInt8 := dkwX10_init_8 ++ []
def dkwX10_init_7 : List UInt8 := [180, 0, 62, 182, 0, 45, 162, 0, 24, 42, 180, 0, 23, 28, 46, 2, 160, 0, 8, 42, 28, 182, 0, 74]
abbrev dktX10_init_7 : List UInt8 := dkwX10_init_7 ++ dktX10_init_8
def dkwX10_init_6 : List UInt8 := [50, 183, 0, 71, 83, 42, 180, 0, 23, 28, 2, 79, 132, 2, 1, 167, 255, 192, 3, 61, 28, 43]
abbrev dktX10_init_6 : List UInt8 := dkwX10_init_6 ++ dktX10_init_7
def dkwX10_init_5 : List UInt8 := [182, 0, 49, 192, 0, 65, 42, 180, 0, 11, 43, 180, 0, 62, 28, 182, 0, 49, 192, 0, 65, 180, 0, 67]
abbrev dktX10_init_5 : List UInt8 := dkwX10_init_5 ++ dktX10_init_6
def dkwX10_init_4 : List UInt8 := [43, 180, 0, 62, 182, 0, 45, 162, 0, 59, 42, 180, 0, 19, 28, 187, 0, 17, 89, 43, 180, 0, 62, 28]
abbrev dktX10_init_4 : List UInt8 := dkwX10_init_4 ++ dktX10_init_5
def dkwX10_init_3 : List UInt8 := [28, 182, 0, 49, 192, 0, 53, 43, 182, 0, 55, 183, 0, 59, 83, 132, 2, 1, 167, 255, 214, 3, 61, 28]
abbrev dktX10_init_3 : List UInt8 := dkwX10_init_3 ++ dktX10_init_4
def dkwX10_init_2 : List UInt8 := [28, 43, 180, 0, 40, 182, 0, 45, 162, 0, 37, 42, 180, 0, 11, 28, 187, 0, 9, 89, 43, 180, 0, 40]
abbrev dktX10_init_2 : List UInt8 := dkwX10_init_2 ++ dktX10_init_3
def dkwX10_init_1 : List UInt8 := [188, 10, 181, 0, 23, 42, 187, 0, 27, 89, 7, 183, 0, 29, 181, 0, 32, 42, 43, 181, 0, 36, 3, 61]
abbrev dktX10_init_1 : List UInt8 := dkwX10_init_1 ++ dktX10_init_2
def dkwX10_init_0 : List UInt8 := [42, 183, 0, 3, 42, 6, 189, 0, 9, 181, 0, 11, 42, 16, 40, 189, 0, 17, 181, 0, 19, 42, 16, 40]
abbrev dktX10_init_0 : List UInt8 := dkwX10_init_0 ++ dktX10_init_1
theorem dksX10_init_0 : cX10_init.data.toList.drop 0 = dktX10_init_0 := by decide +kernel
theorem dksX10_init_1 : cX10_init.data.toList.drop 24 = dktX10_init_1 := dk_seg dksX10_init_0 24 rfl rfl
theorem dksX10_init_2 : cX10_init.data.toList.drop 48 = dktX10_init_2 := dk_seg dksX10_init_1 24 rfl rfl
theorem dksX10_init_3 : cX10_init.data.toList.drop 72 = dktX10_init_3 := dk_seg dksX10_init_2 24 rfl rfl
theorem dksX10_init_4 : cX10_init.data.toList.drop 96 = dktX10_init_4 := dk_seg dksX10_init_3 24 rfl rfl
theorem dksX10_init_5 : cX10_init.data.toList.drop 120 = dktX10_init_5 := dk_seg dksX10_init_4 24 rfl rfl
theorem dksX10_init_6 : cX10_init.data.toList.drop 144 = dktX10_init_6 := dk_seg dksX10_init_5 24 rfl rfl
theorem dksX10_init_7 : cX10_init.data.toList.drop 166 = dktX10_init_7 := dk_seg dksX10_init_6 22 rfl rfl
theorem dksX10_init_8 : cX10_init.data.toList.drop 190 = dktX10_init_8 := dk_seg dksX10_init_7 24 rfl rfl
theorem dX10_init_0 : decode cX10_init 0 = .ok (.aload_n 0, 1) := dk_42 (dk_at dksX10_init_0 0 rfl rfl)
theorem dX10_init_1 : decode cX10_init 1 = .ok (.invokespecial 3, 3) := dk_183 0 3 (dk_at dksX10_init_0 1 rfl rfl)
theorem dX10_init_4 : decode cX10_init 4 = .ok (.aload_n 0, 1) := dk_42 (dk_at dksX10_init_0 4 rfl rfl)
theorem dX10_init_5 : decode cX10_init 5 = .ok (.iconst 3, 1) := dk_6 (dk_at dksX10_init_0 5 rfl rfl)
theorem dX10_init_6 : decode cX10_init 6 = .ok (.anewarray 9, 3) := dk_189 0 9 (dk_at dksX10_init_0 6 rfl rfl)
theorem dX10_init_9 : decode cX10_init 9 = .ok (.putfield 11, 3) := dk_181 0 11 (dk_at dksX10_init_0 9 rfl rfl)
theorem dX10_init_12 : decode cX10_init 12 = .ok (.aload_n 0, 1) := dk_42 (dk_at dksX10_init_0 12 rfl rfl)
theorem dX10_init_13 : decode cX10_init 13 = .ok (.bipush 40, 2) := dk_16 40 (dk_at dksX10_init_0 13 rfl rfl)
theorem dX10_init_15 : decode cX10_init 15 = .ok (.anewarray 17, 3) := dk_189 0 17 (dk_at dksX10_init_0 15 rfl rfl)
theorem dX10_init_18 : decode cX10_init 18 = .ok (.putfield 19, 3) := dk_181 0 19 (dk_at dksX10_init_0 18 rfl rfl)
theorem dX10_init_21 : decode cX10_init 21 = .ok (.aload_n 0, 1) := dk_42 (dk_at dksX10_init_0 21 rfl rfl)
theorem dX10_init_22 : decode cX10_init 22 = .ok (.bipush 40, 2) := dk_16 40 (dk_at dksX10_init_0 22 rfl rfl)
theorem dX10_init_24 : decode cX10_init 24 = .ok (.newarray .int, 2) := dk_188_10 (dk_at dksX10_init_1 0 rfl rfl)
theorem dX10_init_26 : decode cX10_init 26 = .ok (.putfield 23, 3) := dk_181 0 23 (dk_at dksX10_init_1 2 rfl rfl)
theorem dX10_init_29 : decode cX10_init 29 = .ok (.aload_n 0, 1) := dk_42 (dk_at dksX10_init_1 5 rfl rfl)
theorem dX10_init_30 : decode cX10_init 30 = .ok (.new 27, 3) := dk_187 0 27 (dk_at dksX10_init_1 6 rfl rfl)
theorem dX10_init_33 : decode cX10_init 33 = .ok (.dup, 1) := dk_89 (dk_at dksX10_init_1 9 rfl rfl)
theorem dX10_init_34 : decode cX10_init 34 = .ok (.iconst 4, 1) := dk_7 (dk_at dksX10_init_1 10 rfl rfl)
theorem dX10_init_35 : decode cX10_init 35 = .ok (.invokespecial 29, 3) := dk_183 0 29 (dk_at dksX10_init_1 11 rfl rfl)
theorem dX10_init_38 : decode cX10_init 38 = .ok (.putfield 32, 3) := dk_181 0 32 (dk_at dksX10_init_1 14 rfl rfl)
theorem dX10_init_41 : decode cX10_init 41 = .ok (.aload_n 0, 1) := dk_42 (dk_at dksX10_init_1 17 rfl rfl)
theorem dX10_init_42 : decode cX10_init 42 = .ok (.aload_n 1, 1) := dk_43 (dk_at dksX10_init_1 18 rfl rfl)
theorem dX10_init_43 : decode cX10_init 43 = .ok (.putfield 36, 3) := dk_181 0 36 (dk_at dksX10_init_1 19 rfl rfl)
theorem dX10_init_46 : decode cX10_init 46 = .ok (.iconst 0, 1) := dk_3 (dk_at dksX10_init_1 22 rfl rfl)
theorem dX10_init_47 : decode cX10_init 47 = .ok (.istore_n 2, 1) := dk_61 (dk_at dksX10_init_1 23 rfl rfl)
theorem dX10_init_48 : decode cX10_init 48 = .ok (.iload_n 2, 1) := dk_28 (dk_at dksX10_init_2 0 rfl rfl)
theorem dX10_init_49 : decode cX10_init 49 = .ok (.aload_n 1, 1) := dk_43 (dk_at dksX10_init_2 1 rfl rfl)
theorem dX10_init_50 : decode cX10_init 50 = .ok (.getfield 40, 3) := dk_180 0 40 (dk_at dksX10_init_2 2 rfl rfl)
theorem dX10_init_53 : decode cX10_init 53 = .ok (.invokevirtual 45, 3) := dk_182 0 45 (dk_at dksX10_init_2 5 rfl rfl)
theorem dX10_init_56 : decode cX10_init 56 = .ok (.if_icmp .ge 37, 3) := dk_162 0 37 (dk_at dksX10_init_2 8 rfl rfl)
theorem dX10_init_59 : decode cX10_init 59 = .ok (.aload_n 0, 1) := dk_42 (dk_at dksX10_init_2 11 rfl rfl)
theorem dX10_init_60 : decode cX10_init 60 = .ok (.getfield 11, 3) := dk_180 0 11 (dk_at dksX10_init_2 12 rfl rfl)
theorem dX10_init_63 : decode cX10_init 63 = .ok (.iload_n 2, 1) := dk_28 (dk_at dksX10_init_2 15 rfl rfl)
theorem dX10_init_64 : decode cX10_init 64 = .ok (.new 9, 3) := dk_187 0 9 (dk_at dksX10_init_2 16 rfl rfl)
theorem dX10_init_67 : decode cX10_init 67 = .ok (.dup, 1) := dk_89 (dk_at dksX10_init_2 19 rfl rfl)
theorem dX10_init_68 : decode cX10_init 68 = .ok (.aload_n 1, 1) := dk_43 (dk_at dksX10_init_2 20 rfl rfl)
theorem dX10_init_69 : decode cX10_init 69 = .ok (.getfield 40, 3) := dk_180 0 40 (dk_at dksX10_init_2 21 rfl rfl)
theorem dX10_init_72 : decode cX10_init 72 = .ok (.iload_n 2, 1) := dk_28 (dk_at dksX10_init_3 0 rfl rfl)
theorem dX10_init_73 : decode cX10_init 73 = .ok (.invokevirtual 49, 3) := dk_182 0 49 (dk_at dksX10_init_3 1 rfl rfl)
theorem dX10_init_76 : decode cX10_init 76 = .ok (.checkcast 53, 3) := dk_192 0 53 (dk_at dksX10_init_3 4 rfl rfl)
theorem dX10_init_79 : decode cX10_init 79 = .ok (.aload_n 1, 1) := dk_43 (dk_at dksX10_init_3 7 rfl rfl)
theorem dX10_init_80 : decode cX10_init 80 = .ok (.invokevirtual 55, 3) := dk_182 0 55 (dk_at dksX10_init_3 8 rfl rfl)
theorem dX10_init_83 : decode cX10_init 83 = .ok (.invokespecial 59, 3) := dk_183 0 59 (dk_at dksX10_init_3 11 rfl rfl)
theorem dX10_init_86 : decode cX10_init 86 = .ok (.aastore, 1) := dk_83 (dk_at dksX10_init_3 14 rfl rfl)
theorem dX10_init_87 : decode cX10_init 87 = .ok (.iinc 2 1, 3) := dk_132 2 1 (dk_at dksX10_init_3 15 rfl rfl)
theorem dX10_init_90 : decode cX10_init 90 = .ok (.goto (-42), 3) := dk_167 255 214 (dk_at dksX10_init_3 18 rfl rfl)
theorem dX10_init_93 : decode cX10_init 93 = .ok (.iconst 0, 1) := dk_3 (dk_at dksX10_init_3 21 rfl rfl)
theorem dX10_init_94 : decode cX10_init 94 = .ok (.istore_n 2, 1) := dk_61 (dk_at dksX10_init_3 22 rfl rfl)
theorem dX10_init_95 : decode cX10_init 95 = .ok (.iload_n 2, 1) := dk_28 (dk_at dksX10_init_3 23 rfl rfl)
theorem dX10_init_96 : decode cX10_init 96 = .ok (.aload_n 1, 1) := dk_43 (dk_at dksX10_init_4 0 rfl rfl)
theorem dX10_init_97 : decode cX10_init 97 = .ok (.getfield 62, 3) := dk_180 0 62 (dk_at dksX10_init_4 1 rfl rfl)
theorem dX10_init_100 : decode cX10_init 100 = .ok (.invokevirtual 45, 3) := dk_182 0 45 (dk_at dksX10_init_4 4 rfl rfl)
theorem dX10_init_103 : decode cX10_init 103 = .ok (.if_icmp .ge 59, 3) := dk_162 0 59 (dk_at dksX10_init_4 7 rfl rfl)
theorem dX10_init_106 : decode cX10_init 106 = .ok (.aload_n 0, 1) := dk_42 (dk_at dksX10_init_4 10 rfl rfl)
theorem dX10_init_107 : decode cX10_init 107 = .ok (.getfield 19, 3) := dk_180 0 19 (dk_at dksX10_init_4 11 rfl rfl)
theorem dX10_init_110 : decode cX10_init 110 = .ok (.iload_n 2, 1) := dk_28 (dk_at dksX10_init_4 14 rfl rfl)
theorem dX10_init_111 : decode cX10_init 111 = .ok (.new 17, 3) := dk_187 0 17 (dk_at dksX10_init_4 15 rfl rfl)
theorem dX10_init_114 : decode cX10_init 114 = .ok (.dup, 1) := dk_89 (dk_at dksX10_init_4 18 rfl rfl)
theorem dX10_init_115 : decode cX10_init 115 = .ok (.aload_n 1, 1) := dk_43 (dk_at dksX10_init_4 19 rfl rfl)
theorem dX10_init_116 : decode cX10_init 116 = .ok (.getfield 62, 3) := dk_180 0 62 (dk_at dksX10_init_4 20 rfl rfl)
theorem dX10_init_119 : decode cX10_init 119 = .ok (.iload_n 2, 1) := dk_28 (dk_at dksX10_init_4 23 rfl rfl)
theorem dX10_init_120 : decode cX10_init 120 = .ok (.invokevirtual 49, 3) := dk_182 0 49 (dk_at dksX10_init_5 0 rfl rfl)
theorem dX10_init_123 : decode cX10_init 123 = .ok (.checkcast 65, 3) := dk_192 0 65 (dk_at dksX10_init_5 3 rfl rfl)
theorem dX10_init_126 : decode cX10_init 126 = .ok (.aload_n 0, 1) := dk_42 (dk_at dksX10_init_5 6 rfl rfl)
theorem dX10_init_127 : decode cX10_init 127 = .ok (.getfield 11, 3) := dk_180 0 11 (dk_at dksX10_init_5 7 rfl rfl)
theorem dX10_init_130 : decode cX10_init 130 = .ok (.aload_n 1, 1) := dk_43 (dk_at dksX10_init_5 10 rfl rfl)
theorem dX10_init_131 : decode cX10_init 131 = .ok (.getfield 62, 3) := dk_180 0 62 (dk_at dksX10_init_5 11 rfl rfl)
theorem dX10_init_134 : decode cX10_init 134 = .ok (.iload_n 2, 1) := dk_28 (dk_at dksX10_init_5 14 rfl rfl)
theorem dX10_init_135 : decode cX10_init 135 = .ok (.invokevirtual 49, 3) := dk_182 0 49 (dk_at dksX10_init_5 15 rfl rfl)
theorem dX10_init_138 : decode cX10_init 138 = .ok (.checkcast 65, 3) := dk_192 0 65 (dk_at dksX10_init_5 18 rfl rfl)
theorem dX10_init_141 : decode cX10_init 141 = .ok (.getfield 67, 3) := dk_180 0 67 (dk_at dksX10_init_5 21 rfl rfl)
theorem dX10_init_144 : decode cX10_init 144 = .ok (.aaload, 1) := dk_50 (dk_at dksX10_init_6 0 rfl rfl)
theorem dX10_init_145 : decode cX10_init 145 = .ok (.invokespecial 71, 3) := dk_183 0 71 (dk_at dksX10_init_6 1 rfl rfl)
theorem dX10_init_148 : decode cX10_init 148 = .ok (.aastore, 1) := dk_83 (dk_at dksX10_init_6 4 rfl rfl)
theorem dX10_init_149 : decode cX10_init 149 = .ok (.aload_n 0, 1) := dk_42 (dk_at dksX10_init_6 5 rfl rfl)
theorem dX10_init_150 : decode cX10_init 150 = .ok (.getfield 23, 3) := dk_180 0 23 (dk_at dksX10_init_6 6 rfl rfl)
theorem dX10_init_153 : decode cX10_init 153 = .ok (.iload_n 2, 1) := dk_28 (dk_at dksX10_init_6 9 rfl rfl)
theorem dX10_init_154 : decode cX10_init 154 = .ok (.iconst (-1), 1) := dk_2 (dk_at dksX10_init_6 10 rfl rfl)
theorem dX10_init_155 : decode cX10_init 155 = .ok (.iastore, 1) := dk_79 (dk_at dksX10_init_6 11 rfl rfl)
theorem dX10_init_156 : decode cX10_init 156 = .ok (.iinc 2 1, 3) := dk_132 2 1 (dk_at dksX10_init_6 12 rfl rfl)
theorem dX10_init_159 : decode cX10_init 159 = .ok (.goto (-64), 3) := dk_167 255 192 (dk_at dksX10_init_6 15 rfl rfl)
theorem dX10_init_162 : decode cX10_init 162 = .ok (.iconst 0, 1) := dk_3 (dk_at dksX10_init_6 18 rfl rfl)
theorem dX10_init_163 : decode cX10_init 163 = .ok (.istore_n 2, 1) := dk_61 (dk_at dksX10_init_6 19 rfl rfl)
theorem dX10_init_164 : decode cX10_init 164 = .ok (.iload_n 2, 1) := dk_28 (dk_at dksX10_init_6 20 rfl rfl)
theorem dX10_init_165 : decode cX10_init 165 = .ok (.aload_n 1, 1) := dk_43 (dk_at dksX10_init_6 21 rfl rfl)
theorem dX10_init_166 : decode cX10_init 166 = .ok (.getfield 62, 3) := dk_180 0 62 (dk_at dksX10_init_7 0 rfl rfl)
theorem dX10_init_169 : decode cX10_init 169 = .ok (.invokevirtual 45, 3) := dk_182 0 45 (dk_at dksX10_init_7 3 rfl rfl)
theorem dX10_init_172 : decode cX10_init 172 = .ok (.if_icmp .ge 24, 3) := dk_162 0 24 (dk_at dksX10_init_7 6 rfl rfl)
theorem dX10_init_175 : decode cX10_init 175 = .ok (.aload_n 0, 1) := dk_42 (dk_at dksX10_init_7 9 rfl rfl)
theorem dX10_init_176 : decode cX10_init 176 = .ok (.getfield 23, 3) := dk_180 0 23 (dk_at dksX10_init_7 10 rfl rfl)
theorem dX10_init_179 : decode cX10_init 179 = .ok (.iload_n 2, 1) := dk_28 (dk_at dksX10_init_7 13 rfl rfl)
theorem dX10_init_180 : decode cX10_init 180 = .ok (.iaload, 1) := dk_46 (dk_at dksX10_init_7 14 rfl rfl)
theorem dX10_init_181 : decode cX10_init 181 = .ok (.iconst (-1), 1) := dk_2 (dk_at dksX10_init_7 15 rfl rfl)
theorem dX10_init_182 : decode cX10_init 182 = .ok (.if_icmp .ne 8, 3) := dk_160 0 8 (dk_at dksX10_init_7 16 rfl rfl)
theorem dX10_init_185 : decode cX10_init 185 = .ok (.aload_n 0, 1) := dk_42 (dk_at dksX10_init_7 19 rfl rfl)
theorem dX10_init_186 : decode cX10_init 186 = .ok (.iload_n 2, 1) := dk_28 (dk_at dksX10_init_7 20 rfl rfl)
theorem dX10_init_187 : decode cX10_init 187 = .ok (.invokevirtual 74, 3) := dk_182 0 74 (dk_at dksX10_init_7 21 rfl rfl)
theorem dX10_init_190 : decode cX10_init 190 = .ok (.iinc 2 1, 3) := dk_132 2 1 (dk_at dksX10_init_8 0 rfl rfl)
theorem dX10_init_193 : decode cX10_init 193 = .ok (.goto (-29), 3) := dk_167 255 227 (dk_at dksX10_init_8 3 rfl rfl)
theorem dX10_init_196 : decode cX10_init 196 = .ok (.aload_n 0, 1) := dk_42 (dk_at dksX10_init_8 6 rfl rfl)
theorem dX10_init_197 : decode cX10_init 197 = .ok (.invokevirtual 77, 3) := dk_182 0 77 (dk_at dksX10_init_8 7 rfl rfl)
theorem dX10_init_200 : decode cX10_init 200 = .ok (.return_, 1) := dk_177 (dk_at dksX10_init_8 10 rfl rfl)
abbrev cX10_spread : ByteArray := prog_13_method_4_code
def yX10_spread : MethodName := ⟨RX10, "spread", "(I)V"⟩
def dkwX10_spread_6 : List UInt8 := [167, 255, 170, 177]
abbrev dktX10_spread_6 : List UInt8 := dkwX10_spread_6 ++ []
def dkwX10_spread_5 : List UInt8 := [21, 5, 28, 79, 45, 21, 5, 184, 0, 141, 182, 0, 138, 87, 132, 5, 1, 167, 255, 188, 132, 4, 1]
abbrev dktX10_spread_5 : List UInt8 := dkwX10_spread_5 ++ dktX10_spread_6
def dkwX10_spread_4 : List UInt8 := [45, 21, 4, 182, 0, 49, 192, 0, 142, 182, 0, 147, 21, 5, 182, 0, 150, 153, 0, 21, 42, 180, 0, 23]
abbrev dktX10_spread_4 : List UInt8 := dkwX10_spread_4 ++ dktX10_spread_5
def dkwX10_spread_3 : List UInt8 := [180, 0, 36, 180, 0, 62, 182, 0, 45, 162, 0, 59, 42, 180, 0, 23, 21, 5, 46, 2, 160, 0, 42, 42]
abbrev dktX10_spread_3 : List UInt8 := dkwX10_spread_3 ++ dktX10_spread_4
def dkwX10_spread_2 : List UInt8 := [182, 0, 138, 87, 3, 54, 4, 21, 4, 45, 182, 0, 45, 162, 0, 83, 3, 54, 5, 21, 5, 42]
abbrev dktX10_spread_2 : List UInt8 := dkwX10_spread_2 ++ dktX10_spread_3
def dkwX10_spread_1 : List UInt8 := [87, 42, 180, 0, 23, 27, 28, 79, 187, 0, 27, 89, 7, 183, 0, 29, 78, 45, 27, 184, 0, 141]
abbrev dktX10_spread_1 : List UInt8 := dkwX10_spread_1 ++ dktX10_spread_2
def dkwX10_spread_0 : List UInt8 := [42, 180, 0, 32, 182, 0, 45, 61, 42, 180, 0, 32, 187, 0, 133, 89, 28, 27, 183, 0, 135, 182, 0, 138]
abbrev dktX10_spread_0 : List UInt8 := dkwX10_spread_0 ++ dktX10_spread_1
theorem dksX10_spread_0 : cX10_spread.data.toList.drop 0 = dktX10_spread_0 := by decide +kernel
theorem dksX10_spread_1 : cX10_spread.data.toList.drop 24 = dktX10_spread_1 := dk_seg dksX10_spread_0 24 rfl rfl
theorem dksX10_spread_2 : cX10_spread.data.toList.drop 46 = dktX10_spread_2 := dk_seg dksX10_spread_1 22 rfl rfl
theorem dksX10_spread_3 : cX10_spread.data.toList.drop 68 = dktX10_spread_3 := dk_seg dksX10_spread_2 22 rfl rfl
theorem dksX10_spread_4 : cX10_spread.data.toList.drop 92 = dktX10_spread_4 := dk_seg dksX10_spread_3 24 rfl rfl
theorem dksX10_spread_5 : cX10_spread.data.toList.drop 116 = dktX10_spread_5 := dk_seg dksX10_spread_4 24 rfl rfl
theorem dksX10_spread_6 : cX10_spread.data.toList.drop 139 = dktX10_spread_6 := dk_seg dksX10_spread_5 23 rfl rfl
theorem dX10_spread_0 : decode cX10_spread 0 = .ok (.aload_n 0, 1) := dk_42 (dk_at dksX10_spread_0 0 rfl rfl)
theorem dX10_spread_1 : decode cX10_spread 1 = .ok (.getfield 32, 3) := dk_180 0 32 (dk_at dksX10_spread_0 1 rfl rfl)
theorem dX10_spread_4 : decode cX10_spread 4 = .ok (.invokevirtual 45, 3) := dk_182 0 45 (dk_at dksX10_spread_0 4 rfl rfl)
theorem dX10_spread_7 : decode cX10_spread 7 = .ok (.istore_n 2, 1) := dk_61 (dk_at dksX10_spread_0 7 rfl rfl)
theorem dX10_spread_8 : decode cX10_spread 8 = .ok (.aload_n 0, 1) := dk_42 (dk_at dksX10_spread_0 8 rfl rfl)
theorem dX10_spread_9 : decode cX10_spread 9 = .ok (.getfield 32, 3) := dk_180 0 32 (dk_at dksX10_spread_0 9 rfl rfl)
theorem dX10_spread_12 : decode cX10_spread 12 = .ok (.new 133, 3) := dk_187 0 133 (dk_at dksX10_spread_0 12 rfl rfl)
theorem dX10_spread_15 : decode cX10_spread 15 = .ok (.dup, 1) := dk_89 (dk_at dksX10_spread_0 15 rfl rfl)
theorem dX10_spread_16 : decode cX10_spread 16 = .ok (.iload_n 2, 1) := dk_28 (dk_at dksX10_spread_0 16 rfl rfl)
theorem dX10_spread_17 : decode cX10_spread 17 = .ok (.iload_n 1, 1) := dk_27 (dk_at dksX10_spread_0 17 rfl rfl)
theorem dX10_spread_18 : decode cX10_spread 18 = .ok (.invokespecial 135, 3) := dk_183 0 135 (dk_at dksX10_spread_0 18 rfl rfl)
theorem dX10_spread_21 : decode cX10_spread 21 = .ok (.invokevirtual 138, 3) := dk_182 0 138 (dk_at dksX10_spread_0 21 rfl rfl)
theorem dX10_spread_24 : decode cX10_spread 24 = .ok (.pop, 1) := dk_87 (dk_at dksX10_spread_1 0 rfl rfl)
theorem dX10_spread_25 : decode cX10_spread 25 = .ok (.aload_n 0, 1) := dk_42 (dk_at dksX10_spread_1 1 rfl rfl)
theorem dX10_spread_26 : decode cX10_spread 26 = .ok (.getfield 23, 3) := dk_180 0 23 (dk_at dksX10_spread_1 2 rfl rfl)
theorem dX10_spread_29 : decode cX10_spread 29 = .ok (.iload_n 1, 1) := dk_27 (dk_at dksX10_spread_1 5 rfl rfl)
theorem dX10_spread_30 : decode cX10_spread 30 = .ok (.iload_n 2, 1) := dk_28 (dk_at dksX10_spread_1 6 rfl rfl)
theorem dX10_spread_31 : decode cX10_spread 31 = .ok (.iastore, 1) := dk_79 (dk_at dksX10_spread_1 7 rfl rfl)
theorem dX10_spread_32 : decode cX10_spread 32 = .ok (.new 27, 3) := dk_187 0 27 (dk_at dksX10_spread_1 8 rfl rfl)
theorem dX10_spread_35 : decode cX10_spread 35 = .ok (.dup, 1) := dk_89 (dk_at dksX10_spread_1 11 rfl rfl)
theorem dX10_spread_36 : decode cX10_spread 36 = .ok (.iconst 4, 1) := dk_7 (dk_at dksX10_spread_1 12 rfl rfl)
theorem dX10_spread_37 : decode cX10_spread 37 = .ok (.invokespecial 29, 3) := dk_183 0 29 (dk_at dksX10_spread_1 13 rfl rfl)
theorem dX10_spread_40 : decode cX10_spread 40 = .ok (.astore_n 3, 1) := dk_78 (dk_at dksX10_spread_1 16 rfl rfl)
theorem dX10_spread_41 : decode cX10_spread 41 = .ok (.aload_n 3, 1) := dk_45 (dk_at dksX10_spread_1 17 rfl rfl)
theorem dX10_spread_42 : decode cX10_spread 42 = .ok (.iload_n 1, 1) := dk_27 (dk_at dksX10_spread_1 18 rfl rfl)
theorem dX10_spread_43 : decode cX10_spread 43 = .ok (.invokestatic 141, 3) := dk_184 0 141 (dk_at dksX10_spread_1 19 rfl rfl)
theorem dX10_spread_46 : decode cX10_spread 46 = .ok (.invokevirtual 138, 3) := dk_182 0 138 (dk_at dksX10_spread_2 0 rfl rfl)
theorem dX10_spread_49 : decode cX10_spread 49 = .ok (.pop, 1) := dk_87 (dk_at dksX10_spread_2 3 rfl rfl)
theorem dX10_spread_50 : decode cX10_spread 50 = .ok (.iconst 0, 1) := dk_3 (dk_at dksX10_spread_2 4 rfl rfl)
theorem dX10_spread_51 : decode cX10_spread 51 = .ok (.istore 4, 2) := dk_54 4 (dk_at dksX10_spread_2 5 rfl rfl)
theorem dX10_spread_53 : decode cX10_spread 53 = .ok (.iload 4, 2) := dk_21 4 (dk_at dksX10_spread_2 7 rfl rfl)
theorem dX10_spread_55 : decode cX10_spread 55 = .ok (.aload_n 3, 1) := dk_45 (dk_at dksX10_spread_2 9 rfl rfl)
theorem dX10_spread_56 : decode cX10_spread 56 = .ok (.invokevirtual 45, 3) := dk_182 0 45 (dk_at dksX10_spread_2 10 rfl rfl)
theorem dX10_spread_59 : decode cX10_spread 59 = .ok (.if_icmp .ge 83, 3) := dk_162 0 83 (dk_at dksX10_spread_2 13 rfl rfl)
theorem dX10_spread_62 : decode cX10_spread 62 = .ok (.iconst 0, 1) := dk_3 (dk_at dksX10_spread_2 16 rfl rfl)
theorem dX10_spread_63 : decode cX10_spread 63 = .ok (.istore 5, 2) := dk_54 5 (dk_at dksX10_spread_2 17 rfl rfl)
theorem dX10_spread_65 : decode cX10_spread 65 = .ok (.iload 5, 2) := dk_21 5 (dk_at dksX10_spread_2 19 rfl rfl)
theorem dX10_spread_67 : decode cX10_spread 67 = .ok (.aload_n 0, 1) := dk_42 (dk_at dksX10_spread_2 21 rfl rfl)
theorem dX10_spread_68 : decode cX10_spread 68 = .ok (.getfield 36, 3) := dk_180 0 36 (dk_at dksX10_spread_3 0 rfl rfl)
theorem dX10_spread_71 : decode cX10_spread 71 = .ok (.getfield 62, 3) := dk_180 0 62 (dk_at dksX10_spread_3 3 rfl rfl)
theorem dX10_spread_74 : decode cX10_spread 74 = .ok (.invokevirtual 45, 3) := dk_182 0 45 (dk_at dksX10_spread_3 6 rfl rfl)
theorem dX10_spread_77 : decode cX10_spread 77 = .ok (.if_icmp .ge 59, 3) := dk_162 0 59 (dk_at dksX10_spread_3 9 rfl rfl)
theorem dX10_spread_80 : decode cX10_spread 80 = .ok (.aload_n 0, 1) := dk_42 (dk_at dksX10_spread_3 12 rfl rfl)
theorem dX10_spread_81 : decode cX10_spread 81 = .ok (.getfield 23, 3) := dk_180 0 23 (dk_at dksX10_spread_3 13 rfl rfl)
theorem dX10_spread_84 : decode cX10_spread 84 = .ok (.iload 5, 2) := dk_21 5 (dk_at dksX10_spread_3 16 rfl rfl)
theorem dX10_spread_86 : decode cX10_spread 86 = .ok (.iaload, 1) := dk_46 (dk_at dksX10_spread_3 18 rfl rfl)
theorem dX10_spread_87 : decode cX10_spread 87 = .ok (.iconst (-1), 1) := dk_2 (dk_at dksX10_spread_3 19 rfl rfl)
theorem dX10_spread_88 : decode cX10_spread 88 = .ok (.if_icmp .ne 42, 3) := dk_160 0 42 (dk_at dksX10_spread_3 20 rfl rfl)
theorem dX10_spread_91 : decode cX10_spread 91 = .ok (.aload_n 0, 1) := dk_42 (dk_at dksX10_spread_3 23 rfl rfl)
theorem dX10_spread_92 : decode cX10_spread 92 = .ok (.aload_n 3, 1) := dk_45 (dk_at dksX10_spread_4 0 rfl rfl)
theorem dX10_spread_93 : decode cX10_spread 93 = .ok (.iload 4, 2) := dk_21 4 (dk_at dksX10_spread_4 1 rfl rfl)
theorem dX10_spread_95 : decode cX10_spread 95 = .ok (.invokevirtual 49, 3) := dk_182 0 49 (dk_at dksX10_spread_4 3 rfl rfl)
theorem dX10_spread_98 : decode cX10_spread 98 = .ok (.checkcast 142, 3) := dk_192 0 142 (dk_at dksX10_spread_4 6 rfl rfl)
theorem dX10_spread_101 : decode cX10_spread 101 = .ok (.invokevirtual 147, 3) := dk_182 0 147 (dk_at dksX10_spread_4 9 rfl rfl)
theorem dX10_spread_104 : decode cX10_spread 104 = .ok (.iload 5, 2) := dk_21 5 (dk_at dksX10_spread_4 12 rfl rfl)
theorem dX10_spread_106 : decode cX10_spread 106 = .ok (.invokevirtual 150, 3) := dk_182 0 150 (dk_at dksX10_spread_4 14 rfl rfl)
theorem dX10_spread_109 : decode cX10_spread 109 = .ok (.ifCond .eq 21, 3) := dk_153 0 21 (dk_at dksX10_spread_4 17 rfl rfl)
theorem dX10_spread_112 : decode cX10_spread 112 = .ok (.aload_n 0, 1) := dk_42 (dk_at dksX10_spread_4 20 rfl rfl)
theorem dX10_spread_113 : decode cX10_spread 113 = .ok (.getfield 23, 3) := dk_180 0 23 (dk_at dksX10_spread_4 21 rfl rfl)
theorem dX10_spread_116 : decode cX10_spread 116 = .ok (.iload 5, 2) := dk_21 5 (dk_at dksX10_spread_5 0 rfl rfl)
theorem dX10_spread_118 : decode cX10_spread 118 = .ok (.iload_n 2, 1) := dk_28 (dk_at dksX10_spread_5 2 rfl rfl)
theorem dX10_spread_119 : decode cX10_spread 119 = .ok (.iastore, 1) := dk_79 (dk_at dksX10_spread_5 3 rfl rfl)
theorem dX10_spread_120 : decode cX10_spread 120 = .ok (.aload_n 3, 1) := dk_45 (dk_at dksX10_spread_5 4 rfl rfl)
theorem dX10_spread_121 : decode cX10_spread 121 = .ok (.iload 5, 2) := dk_21 5 (dk_at dksX10_spread_5 5 rfl rfl)
theorem dX10_spread_123 : decode cX10_spread 123 = .ok (.invokestatic 141, 3) := dk_184 0 141 (dk_at dksX10_spread_5 7 rfl rfl)
theorem dX10_spread_126 : decode cX10_spread 126 = .ok (.invokevirtual 138, 3) := dk_182 0 138 (dk_at dksX10_spread_5 10 rfl rfl)
theorem dX10_spread_129 : decode cX10_spread 129 = .ok (.pop, 1) := dk_87 (dk_at dksX10_spread_5 13 rfl rfl)
theorem dX10_spread_130 : decode cX10_spread 130 = .ok (.iinc 5 1, 3) := dk_132 5 1 (dk_at dksX10_spread_5 14 rfl rfl)
theorem dX10_spread_133 : decode cX10_spread 133 = .ok (.goto (-68), 3) := dk_167 255 188 (dk_at dksX10_spread_5 17 rfl rfl)
theorem dX10_spread_136 : decode cX10_spread 136 = .ok (.iinc 4 1, 3) := dk_132 4 1 (dk_at dksX10_spread_5 20 rfl rfl)
theorem dX10_spread_139 : decode cX10_spread 139 = .ok (.goto (-86), 3) := dk_167 255 170 (dk_at dksX10_spread_6 0 rfl rfl)
theorem dX10_spread_142 : decode cX10_spread 142 = .ok (.return_, 1) := dk_177 (dk_at dksX10_spread_6 3 rfl rfl)
abbrev cX10_areAlike : ByteArray := prog_13_method_3_code
def yX10_areAlike : MethodName := ⟨RX10, "areAlike", "(II)Z"⟩
def dkwX10_areAlike_5 : List UInt8 := [180, 0, 125, 182, 0, 129, 153, 0, 7, 4, 167, 0, 4, 3, 172]
abbrev dktX10_areAlike_5 : List UInt8 := dkwX10_areAlike_5 ++ []
def dkwX10_areAlike_4 : List UInt8 := [25, 5, 182, 0, 116, 25, 6, 182, 0, 116, 184, 0, 119, 161, 0, 23, 42, 45, 180, 0, 125, 25, 4]
abbrev dktX10_areAlike_4 : List UInt8 := dkwX10_areAlike_4 ++ dktX10_areAlike_5
def dkwX10_areAlike_3 : List UInt8 := [159, 0, 12, 25, 6, 180, 0, 109, 6, 160, 0, 5, 3, 172, 5, 25, 5, 25, 6, 182, 0, 112, 104]
abbrev dktX10_areAlike_3 : List UInt8 := dkwX10_areAlike_3 ++ dktX10_areAlike_4
def dkwX10_areAlike_2 : List UInt8 := [27, 28, 159, 0, 33, 45, 180, 0, 106, 25, 4, 180, 0, 106, 160, 0, 21, 25, 5, 180, 0, 109, 6]
abbrev dktX10_areAlike_2 : List UInt8 := dkwX10_areAlike_2 ++ dktX10_areAlike_3
def dkwX10_areAlike_1 : List UInt8 := [182, 0, 49, 192, 0, 65, 58, 4, 42, 180, 0, 19, 27, 50, 58, 5, 42, 180, 0, 19, 28, 50, 58, 6]
abbrev dktX10_areAlike_1 : List UInt8 := dkwX10_areAlike_1 ++ dktX10_areAlike_2
def dkwX10_areAlike_0 : List UInt8 := [42, 180, 0, 36, 180, 0, 62, 27, 182, 0, 49, 192, 0, 65, 78, 42, 180, 0, 36, 180, 0, 62, 28]
abbrev dktX10_areAlike_0 : List UInt8 := dkwX10_areAlike_0 ++ dktX10_areAlike_1
theorem dksX10_areAlike_0 : cX10_areAlike.data.toList.drop 0 = dktX10_areAlike_0 := by decide +kernel
theorem dksX10_areAlike_1 : cX10_areAlike.data.toList.drop 23 = dktX10_areAlike_1 := dk_seg dksX10_areAlike_0 23 rfl rfl
theorem dksX10_areAlike_2 : cX10_areAlike.data.toList.drop 47 = dktX10_areAlike_2 := dk_seg dksX10_areAlike_1 24 rfl rfl
theorem dksX10_areAlike_3 : cX10_areAlike.data.toList.drop 70 = dktX10_areAlike_3 := dk_seg dksX10_areAlike_2 23 rfl rfl
theorem dksX10_areAlike_4 : cX10_areAlike.data.toList.drop 93 = dktX10_areAlike_4 := dk_seg dksX10_areAlike_3 23 rfl rfl
theorem dksX10_areAlike_5 : cX10_areAlike.data.toList.drop 116 = dktX10_areAlike_5 := dk_seg dksX10_areAlike_4 23 rfl rfl
theorem dX10_areAlike_0 : decode cX10_areAlike 0 = .ok (.aload_n 0, 1) := dk_42 (dk_at dksX10_areAlike_0 0 rfl rfl)
theorem dX10_areAlike_1 : decode cX10_areAlike 1 = .ok (.getfield 36, 3) := dk_180 0 36 (dk_at dksX10_areAlike_0 1 rfl rfl)
theorem dX10_areAlike_4 : decode cX10_areAlike 4 = .ok (.getfield 62, 3) := dk_180 0 62 (dk_at dksX10_areAlike_0 4 rfl rfl)
theorem dX10_areAlike_7 : decode cX10_areAlike 7 = .ok (.iload_n 1, 1) := dk_27 (dk_at dksX10_areAlike_0 7 rfl rfl)
theorem dX10_areAlike_8 : decode cX10_areAlike 8 = .ok (.invokevirtual 49, 3) := dk_182 0 49 (dk_at dksX10_areAlike_0 8 rfl rfl)
theorem dX10_areAlike_11 : decode cX10_areAlike 11 = .ok (.checkcast 65, 3) := dk_192 0 65 (dk_at dksX10_areAlike_0 11 rfl rfl)
theorem dX10_areAlike_14 : decode cX10_areAlike 14 = .ok (.astore_n 3, 1) := dk_78 (dk_at dksX10_areAlike_0 14 rfl rfl)
theorem dX10_areAlike_15 : decode cX10_areAlike 15 = .ok (.aload_n 0, 1) := dk_42 (dk_at dksX10_areAlike_0 15 rfl rfl)
theorem dX10_areAlike_16 : decode cX10_areAlike 16 = .ok (.getfield 36, 3) := dk_180 0 36 (dk_at dksX10_areAlike_0 16 rfl rfl)
theorem dX10_areAlike_19 : decode cX10_areAlike 19 = .ok (.getfield 62, 3) := dk_180 0 62 (dk_at dksX10_areAlike_0 19 rfl rfl)
theorem dX10_areAlike_22 : decode cX10_areAlike 22 = .ok (.iload_n 2, 1) := dk_28 (dk_at dksX10_areAlike_0 22 rfl rfl)
theorem dX10_areAlike_23 : decode cX10_areAlike 23 = .ok (.invokevirtual 49, 3) := dk_182 0 49 (dk_at dksX10_areAlike_1 0 rfl rfl)
theorem dX10_areAlike_26 : decode cX10_areAlike 26 = .ok (.checkcast 65, 3) := dk_192 0 65 (dk_at dksX10_areAlike_1 3 rfl rfl)
theorem dX10_areAlike_29 : decode cX10_areAlike 29 = .ok (.astore 4, 2) := dk_58 4 (dk_at dksX10_areAlike_1 6 rfl rfl)
theorem dX10_areAlike_31 : decode cX10_areAlike 31 = .ok (.aload_n 0, 1) := dk_42 (dk_at dksX10_areAlike_1 8 rfl rfl)
theorem dX10_areAlike_32 : decode cX10_areAlike 32 = .ok (.getfield 19, 3) := dk_180 0 19 (dk_at dksX10_areAlike_1 9 rfl rfl)
theorem dX10_areAlike_35 : decode cX10_areAlike 35 = .ok (.iload_n 1, 1) := dk_27 (dk_at dksX10_areAlike_1 12 rfl rfl)
theorem dX10_areAlike_36 : decode cX10_areAlike 36 = .ok (.aaload, 1) := dk_50 (dk_at dksX10_areAlike_1 13 rfl rfl)
theorem dX10_areAlike_37 : decode cX10_areAlike 37 = .ok (.astore 5, 2) := dk_58 5 (dk_at dksX10_areAlike_1 14 rfl rfl)
theorem dX10_areAlike_39 : decode cX10_areAlike 39 = .ok (.aload_n 0, 1) := dk_42 (dk_at dksX10_areAlike_1 16 rfl rfl)
theorem dX10_areAlike_40 : decode cX10_areAlike 40 = .ok (.getfield 19, 3) := dk_180 0 19 (dk_at dksX10_areAlike_1 17 rfl rfl)
theorem dX10_areAlike_43 : decode cX10_areAlike 43 = .ok (.iload_n 2, 1) := dk_28 (dk_at dksX10_areAlike_1 20 rfl rfl)
theorem dX10_areAlike_44 : decode cX10_areAlike 44 = .ok (.aaload, 1) := dk_50 (dk_at dksX10_areAlike_1 21 rfl rfl)
theorem dX10_areAlike_45 : decode cX10_areAlike 45 = .ok (.astore 6, 2) := dk_58 6 (dk_at dksX10_areAlike_1 22 rfl rfl)
theorem dX10_areAlike_47 : decode cX10_areAlike 47 = .ok (.iload_n 1, 1) := dk_27 (dk_at dksX10_areAlike_2 0 rfl rfl)
theorem dX10_areAlike_48 : decode cX10_areAlike 48 = .ok (.iload_n 2, 1) := dk_28 (dk_at dksX10_areAlike_2 1 rfl rfl)
theorem dX10_areAlike_49 : decode cX10_areAlike 49 = .ok (.if_icmp .eq 33, 3) := dk_159 0 33 (dk_at dksX10_areAlike_2 2 rfl rfl)
theorem dX10_areAlike_52 : decode cX10_areAlike 52 = .ok (.aload_n 3, 1) := dk_45 (dk_at dksX10_areAlike_2 5 rfl rfl)
theorem dX10_areAlike_53 : decode cX10_areAlike 53 = .ok (.getfield 106, 3) := dk_180 0 106 (dk_at dksX10_areAlike_2 6 rfl rfl)
theorem dX10_areAlike_56 : decode cX10_areAlike 56 = .ok (.aload 4, 2) := dk_25 4 (dk_at dksX10_areAlike_2 9 rfl rfl)
theorem dX10_areAlike_58 : decode cX10_areAlike 58 = .ok (.getfield 106, 3) := dk_180 0 106 (dk_at dksX10_areAlike_2 11 rfl rfl)
theorem dX10_areAlike_61 : decode cX10_areAlike 61 = .ok (.if_icmp .ne 21, 3) := dk_160 0 21 (dk_at dksX10_areAlike_2 14 rfl rfl)
theorem dX10_areAlike_64 : decode cX10_areAlike 64 = .ok (.aload 5, 2) := dk_25 5 (dk_at dksX10_areAlike_2 17 rfl rfl)
theorem dX10_areAlike_66 : decode cX10_areAlike 66 = .ok (.getfield 109, 3) := dk_180 0 109 (dk_at dksX10_areAlike_2 19 rfl rfl)
theorem dX10_areAlike_69 : decode cX10_areAlike 69 = .ok (.iconst 3, 1) := dk_6 (dk_at dksX10_areAlike_2 22 rfl rfl)
theorem dX10_areAlike_70 : decode cX10_areAlike 70 = .ok (.if_icmp .eq 12, 3) := dk_159 0 12 (dk_at dksX10_areAlike_3 0 rfl rfl)
theorem dX10_areAlike_73 : decode cX10_areAlike 73 = .ok (.aload 6, 2) := dk_25 6 (dk_at dksX10_areAlike_3 3 rfl rfl)
theorem dX10_areAlike_75 : decode cX10_areAlike 75 = .ok (.getfield 109, 3) := dk_180 0 109 (dk_at dksX10_areAlike_3 5 rfl rfl)
theorem dX10_areAlike_78 : decode cX10_areAlike 78 = .ok (.iconst 3, 1) := dk_6 (dk_at dksX10_areAlike_3 8 rfl rfl)
theorem dX10_areAlike_79 : decode cX10_areAlike 79 = .ok (.if_icmp .ne 5, 3) := dk_160 0 5 (dk_at dksX10_areAlike_3 9 rfl rfl)
theorem dX10_areAlike_82 : decode cX10_areAlike 82 = .ok (.iconst 0, 1) := dk_3 (dk_at dksX10_areAlike_3 12 rfl rfl)
theorem dX10_areAlike_83 : decode cX10_areAlike 83 = .ok (.ireturn, 1) := dk_172 (dk_at dksX10_areAlike_3 13 rfl rfl)
theorem dX10_areAlike_84 : decode cX10_areAlike 84 = .ok (.iconst 2, 1) := dk_5 (dk_at dksX10_areAlike_3 14 rfl rfl)
theorem dX10_areAlike_85 : decode cX10_areAlike 85 = .ok (.aload 5, 2) := dk_25 5 (dk_at dksX10_areAlike_3 15 rfl rfl)
theorem dX10_areAlike_87 : decode cX10_areAlike 87 = .ok (.aload 6, 2) := dk_25 6 (dk_at dksX10_areAlike_3 17 rfl rfl)
theorem dX10_areAlike_89 : decode cX10_areAlike 89 = .ok (.invokevirtual 112, 3) := dk_182 0 112 (dk_at dksX10_areAlike_3 19 rfl rfl)
theorem dX10_areAlike_92 : decode cX10_areAlike 92 = .ok (.imul, 1) := dk_104 (dk_at dksX10_areAlike_3 22 rfl rfl)
theorem dX10_areAlike_93 : decode cX10_areAlike 93 = .ok (.aload 5, 2) := dk_25 5 (dk_at dksX10_areAlike_4 0 rfl rfl)
theorem dX10_areAlike_95 : decode cX10_areAlike 95 = .ok (.invokevirtual 116, 3) := dk_182 0 116 (dk_at dksX10_areAlike_4 2 rfl rfl)
theorem dX10_areAlike_98 : decode cX10_areAlike 98 = .ok (.aload 6, 2) := dk_25 6 (dk_at dksX10_areAlike_4 5 rfl rfl)
theorem dX10_areAlike_100 : decode cX10_areAlike 100 = .ok (.invokevirtual 116, 3) := dk_182 0 116 (dk_at dksX10_areAlike_4 7 rfl rfl)
theorem dX10_areAlike_103 : decode cX10_areAlike 103 = .ok (.invokestatic 119, 3) := dk_184 0 119 (dk_at dksX10_areAlike_4 10 rfl rfl)
theorem dX10_areAlike_106 : decode cX10_areAlike 106 = .ok (.if_icmp .lt 23, 3) := dk_161 0 23 (dk_at dksX10_areAlike_4 13 rfl rfl)
theorem dX10_areAlike_109 : decode cX10_areAlike 109 = .ok (.aload_n 0, 1) := dk_42 (dk_at dksX10_areAlike_4 16 rfl rfl)
theorem dX10_areAlike_110 : decode cX10_areAlike 110 = .ok (.aload_n 3, 1) := dk_45 (dk_at dksX10_areAlike_4 17 rfl rfl)
theorem dX10_areAlike_111 : decode cX10_areAlike 111 = .ok (.getfield 125, 3) := dk_180 0 125 (dk_at dksX10_areAlike_4 18 rfl rfl)
theorem dX10_areAlike_114 : decode cX10_areAlike 114 = .ok (.aload 4, 2) := dk_25 4 (dk_at dksX10_areAlike_4 21 rfl rfl)
theorem dX10_areAlike_116 : decode cX10_areAlike 116 = .ok (.getfield 125, 3) := dk_180 0 125 (dk_at dksX10_areAlike_5 0 rfl rfl)
theorem dX10_areAlike_119 : decode cX10_areAlike 119 = .ok (.invokevirtual 129, 3) := dk_182 0 129 (dk_at dksX10_areAlike_5 3 rfl rfl)
theorem dX10_areAlike_122 : decode cX10_areAlike 122 = .ok (.ifCond .eq 7, 3) := dk_153 0 7 (dk_at dksX10_areAlike_5 6 rfl rfl)
theorem dX10_areAlike_125 : decode cX10_areAlike 125 = .ok (.iconst 1, 1) := dk_4 (dk_at dksX10_areAlike_5 9 rfl rfl)
theorem dX10_areAlike_126 : decode cX10_areAlike 126 = .ok (.goto 4, 3) := dk_167 0 4 (dk_at dksX10_areAlike_5 10 rfl rfl)
theorem dX10_areAlike_129 : decode cX10_areAlike 129 = .ok (.iconst 0, 1) := dk_3 (dk_at dksX10_areAlike_5 13 rfl rfl)
theorem dX10_areAlike_130 : decode cX10_areAlike 130 = .ok (.ireturn, 1) := dk_172 (dk_at dksX10_areAlike_5 14 rfl rfl)
abbrev cX10_areTextsAlike : ByteArray := prog_13_method_2_code
def yX10_areTextsAlike : MethodName := ⟨RX10, "areTextsAlike", "(Ljava/util/HashSet;Ljava/util/HashSet;)Z"⟩
def dkwX10_areTextsAlike_3 : List UInt8 := [182, 0, 105, 96, 29, 100, 104, 161, 0, 7, 4, 167, 0, 4, 3, 172]
abbrev dktX10_areTextsAlike_3 : List UInt8 := dkwX10_areTextsAlike_3 ++ []
def dkwX10_areTextsAlike_2 : List UInt8 := [3, 96, 62, 167, 255, 217, 16, 100, 29, 104, 42, 180, 0, 36, 180, 0, 102, 43, 182, 0, 105, 44]
abbrev dktX10_areTextsAlike_2 : List UInt8 := dkwX10_areTextsAlike_2 ++ dktX10_areTextsAlike_3
def dkwX10_areTextsAlike_1 : List UInt8 := [185, 0, 92, 1, 0, 192, 0, 96, 58, 5, 29, 44, 25, 5, 182, 0, 98, 153, 0, 7, 4, 167, 0, 4]
abbrev dktX10_areTextsAlike_1 : List UInt8 := dkwX10_areTextsAlike_1 ++ dktX10_areTextsAlike_2
def dkwX10_areTextsAlike_0 : List UInt8 := [3, 62, 43, 182, 0, 80, 58, 4, 25, 4, 185, 0, 86, 1, 0, 153, 0, 35, 25, 4]
abbrev dktX10_areTextsAlike_0 : List UInt8 := dkwX10_areTextsAlike_0 ++ dktX10_areTextsAlike_1
theorem dksX10_areTextsAlike_0 : cX10_areTextsAlike.data.toList.drop 0 = dktX10_areTextsAlike_0 := by decide +kernel
theorem dksX10_areTextsAlike_1 : cX10_areTextsAlike.data.toList.drop 20 = dktX10_areTextsAlike_1 := dk_seg dksX10_areTextsAlike_0 20 rfl rfl
theorem dksX10_areTextsAlike_2 : cX10_areTextsAlike.data.toList.drop 44 = dktX10_areTextsAlike_2 := dk_seg dksX10_areTextsAlike_1 24 rfl rfl
theorem dksX10_areTextsAlike_3 : cX10_areTextsAlike.data.toList.drop 66 = dktX10_areTextsAlike_3 := dk_seg dksX10_areTextsAlike_2 22 rfl rfl
theorem dX10_areTextsAlike_0 : decode cX10_areTextsAlike 0 = .ok (.iconst 0, 1) := dk_3 (dk_at dksX10_areTextsAlike_0 0 rfl rfl)
theorem dX10_areTextsAlike_1 : decode cX10_areTextsAlike 1 = .ok (.istore_n 3, 1) := dk_62 (dk_at dksX10_areTextsAlike_0 1 rfl rfl)
theorem dX10_areTextsAlike_2 : decode cX10_areTextsAlike 2 = .ok (.aload_n 1, 1) := dk_43 (dk_at dksX10_areTextsAlike_0 2 rfl rfl)
theorem dX10_areTextsAlike_3 : decode cX10_areTextsAlike 3 = .ok (.invokevirtual 80, 3) := dk_182 0 80 (dk_at dksX10_areTextsAlike_0 3 rfl rfl)
theorem dX10_areTextsAlike_6 : decode cX10_areTextsAlike 6 = .ok (.astore 4, 2) := dk_58 4 (dk_at dksX10_areTextsAlike_0 6 rfl rfl)
theorem dX10_areTextsAlike_8 : decode cX10_areTextsAlike 8 = .ok (.aload 4, 2) := dk_25 4 (dk_at dksX10_areTextsAlike_0 8 rfl rfl)
theorem dX10_areTextsAlike_10 : decode cX10_areTextsAlike 10 = .ok (.invokeinterface 86 1, 5) := by decide +kernel
theorem dX10_areTextsAlike_15 : decode cX10_areTextsAlike 15 = .ok (.ifCond .eq 35, 3) := dk_153 0 35 (dk_at dksX10_areTextsAlike_0 15 rfl rfl)
theorem dX10_areTextsAlike_18 : decode cX10_areTextsAlike 18 = .ok (.aload 4, 2) := dk_25 4 (dk_at dksX10_areTextsAlike_0 18 rfl rfl)
theorem dX10_areTextsAlike_20 : decode cX10_areTextsAlike 20 = .ok (.invokeinterface 92 1, 5) := by decide +kernel
theorem dX10_areTextsAlike_25 : decode cX10_areTextsAlike 25 = .ok (.checkcast 96, 3) := dk_192 0 96 (dk_at dksX10_areTextsAlike_1 5 rfl rfl)
theorem dX10_areTextsAlike_28 : decode cX10_areTextsAlike 28 = .ok (.astore 5, 2) := dk_58 5 (dk_at dksX10_areTextsAlike_1 8 rfl rfl)
theorem dX10_areTextsAlike_30 : decode cX10_areTextsAlike 30 = .ok (.iload_n 3, 1) := dk_29 (dk_at dksX10_areTextsAlike_1 10 rfl rfl)
theorem dX10_areTextsAlike_31 : decode cX10_areTextsAlike 31 = .ok (.aload_n 2, 1) := dk_44 (dk_at dksX10_areTextsAlike_1 11 rfl rfl)
theorem dX10_areTextsAlike_32 : decode cX10_areTextsAlike 32 = .ok (.aload 5, 2) := dk_25 5 (dk_at dksX10_areTextsAlike_1 12 rfl rfl)
theorem dX10_areTextsAlike_34 : decode cX10_areTextsAlike 34 = .ok (.invokevirtual 98, 3) := dk_182 0 98 (dk_at dksX10_areTextsAlike_1 14 rfl rfl)
theorem dX10_areTextsAlike_37 : decode cX10_areTextsAlike 37 = .ok (.ifCond .eq 7, 3) := dk_153 0 7 (dk_at dksX10_areTextsAlike_1 17 rfl rfl)
theorem dX10_areTextsAlike_40 : decode cX10_areTextsAlike 40 = .ok (.iconst 1, 1) := dk_4 (dk_at dksX10_areTextsAlike_1 20 rfl rfl)
theorem dX10_areTextsAlike_41 : decode cX10_areTextsAlike 41 = .ok (.goto 4, 3) := dk_167 0 4 (dk_at dksX10_areTextsAlike_1 21 rfl rfl)
theorem dX10_areTextsAlike_44 : decode cX10_areTextsAlike 44 = .ok (.iconst 0, 1) := dk_3 (dk_at dksX10_areTextsAlike_2 0 rfl rfl)
theorem dX10_areTextsAlike_45 : decode cX10_areTextsAlike 45 = .ok (.iadd, 1) := dk_96 (dk_at dksX10_areTextsAlike_2 1 rfl rfl)
theorem dX10_areTextsAlike_46 : decode cX10_areTextsAlike 46 = .ok (.istore_n 3, 1) := dk_62 (dk_at dksX10_areTextsAlike_2 2 rfl rfl)
theorem dX10_areTextsAlike_47 : decode cX10_areTextsAlike 47 = .ok (.goto (-39), 3) := dk_167 255 217 (dk_at dksX10_areTextsAlike_2 3 rfl rfl)
theorem dX10_areTextsAlike_50 : decode cX10_areTextsAlike 50 = .ok (.bipush 100, 2) := dk_16 100 (dk_at dksX10_areTextsAlike_2 6 rfl rfl)
theorem dX10_areTextsAlike_52 : decode cX10_areTextsAlike 52 = .ok (.iload_n 3, 1) := dk_29 (dk_at dksX10_areTextsAlike_2 8 rfl rfl)
theorem dX10_areTextsAlike_53 : decode cX10_areTextsAlike 53 = .ok (.imul, 1) := dk_104 (dk_at dksX10_areTextsAlike_2 9 rfl rfl)
theorem dX10_areTextsAlike_54 : decode cX10_areTextsAlike 54 = .ok (.aload_n 0, 1) := dk_42 (dk_at dksX10_areTextsAlike_2 10 rfl rfl)
theorem dX10_areTextsAlike_55 : decode cX10_areTextsAlike 55 = .ok (.getfield 36, 3) := dk_180 0 36 (dk_at dksX10_areTextsAlike_2 11 rfl rfl)
theorem dX10_areTextsAlike_58 : decode cX10_areTextsAlike 58 = .ok (.getfield 102, 3) := dk_180 0 102 (dk_at dksX10_areTextsAlike_2 14 rfl rfl)
theorem dX10_areTextsAlike_61 : decode cX10_areTextsAlike 61 = .ok (.aload_n 1, 1) := dk_43 (dk_at dksX10_areTextsAlike_2 17 rfl rfl)
theorem dX10_areTextsAlike_62 : decode cX10_areTextsAlike 62 = .ok (.invokevirtual 105, 3) := dk_182 0 105 (dk_at dksX10_areTextsAlike_2 18 rfl rfl)
theorem dX10_areTextsAlike_65 : decode cX10_areTextsAlike 65 = .ok (.aload_n 2, 1) := dk_44 (dk_at dksX10_areTextsAlike_2 21 rfl rfl)
theorem dX10_areTextsAlike_66 : decode cX10_areTextsAlike 66 = .ok (.invokevirtual 105, 3) := dk_182 0 105 (dk_at dksX10_areTextsAlike_3 0 rfl rfl)
theorem dX10_areTextsAlike_69 : decode cX10_areTextsAlike 69 = .ok (.iadd, 1) := dk_96 (dk_at dksX10_areTextsAlike_3 3 rfl rfl)
theorem dX10_areTextsAlike_70 : decode cX10_areTextsAlike 70 = .ok (.iload_n 3, 1) := dk_29 (dk_at dksX10_areTextsAlike_3 4 rfl rfl)
theorem dX10_areTextsAlike_71 : decode cX10_areTextsAlike 71 = .ok (.isub, 1) := dk_100 (dk_at dksX10_areTextsAlike_3 5 rfl rfl)
theorem dX10_areTextsAlike_72 : decode cX10_areTextsAlike 72 = .ok (.imul, 1) := dk_104 (dk_at dksX10_areTextsAlike_3 6 rfl rfl)
theorem dX10_areTextsAlike_73 : decode cX10_areTextsAlike 73 = .ok (.if_icmp .lt 7, 3) := dk_161 0 7 (dk_at dksX10_areTextsAlike_3 7 rfl rfl)
theorem dX10_areTextsAlike_76 : decode cX10_areTextsAlike 76 = .ok (.iconst 1, 1) := dk_4 (dk_at dksX10_areTextsAlike_3 10 rfl rfl)
theorem dX10_areTextsAlike_77 : decode cX10_areTextsAlike 77 = .ok (.goto 4, 3) := dk_167 0 4 (dk_at dksX10_areTextsAlike_3 11 rfl rfl)
theorem dX10_areTextsAlike_80 : decode cX10_areTextsAlike 80 = .ok (.iconst 0, 1) := dk_3 (dk_at dksX10_areTextsAlike_3 14 rfl rfl)
theorem dX10_areTextsAlike_81 : decode cX10_areTextsAlike 81 = .ok (.ireturn, 1) := dk_172 (dk_at dksX10_areTextsAlike_3 15 rfl rfl)
abbrev cX10_gather : ByteArray := prog_13_method_5_code
def yX10_gather : MethodName := ⟨RX10, "gather", "()V"⟩
def dkwX10_gather_3 : List UInt8 := [192, 0, 65, 180, 0, 157, 182, 0, 45, 182, 0, 160, 132, 1, 1, 167, 255, 174, 177]
abbrev dktX10_gather_3 : List UInt8 := dkwX10_gather_3 ++ []
def dkwX10_gather_2 : List UInt8 := [192, 0, 65, 42, 180, 0, 19, 27, 50, 42, 180, 0, 36, 180, 0, 62, 44, 180, 0, 154, 182, 0, 49]
abbrev dktX10_gather_2 : List UInt8 := dkwX10_gather_2 ++ dktX10_gather_3
def dkwX10_gather_1 : List UInt8 := [27, 46, 182, 0, 49, 192, 0, 133, 77, 44, 27, 42, 180, 0, 36, 180, 0, 62, 27, 182, 0, 49]
abbrev dktX10_gather_1 : List UInt8 := dkwX10_gather_1 ++ dktX10_gather_2
def dkwX10_gather_0 : List UInt8 := [3, 60, 27, 42, 180, 0, 36, 180, 0, 62, 182, 0, 45, 162, 0, 74, 42, 180, 0, 32, 42, 180, 0, 23]
abbrev dktX10_gather_0 : List UInt8 := dkwX10_gather_0 ++ dktX10_gather_1
theorem dksX10_gather_0 : cX10_gather.data.toList.drop 0 = dktX10_gather_0 := by decide +kernel
theorem dksX10_gather_1 : cX10_gather.data.toList.drop 24 = dktX10_gather_1 := dk_seg dksX10_gather_0 24 rfl rfl
theorem dksX10_gather_2 : cX10_gather.data.toList.drop 46 = dktX10_gather_2 := dk_seg dksX10_gather_1 22 rfl rfl
theorem dksX10_gather_3 : cX10_gather.data.toList.drop 69 = dktX10_gather_3 := dk_seg dksX10_gather_2 23 rfl rfl
theorem dX10_gather_0 : decode cX10_gather 0 = .ok (.iconst 0, 1) := dk_3 (dk_at dksX10_gather_0 0 rfl rfl)
theorem dX10_gather_1 : decode cX10_gather 1 = .ok (.istore_n 1, 1) := dk_60 (dk_at dksX10_gather_0 1 rfl rfl)
theorem dX10_gather_2 : decode cX10_gather 2 = .ok (.iload_n 1, 1) := dk_27 (dk_at dksX10_gather_0 2 rfl rfl)
theorem dX10_gather_3 : decode cX10_gather 3 = .ok (.aload_n 0, 1) := dk_42 (dk_at dksX10_gather_0 3 rfl rfl)
theorem dX10_gather_4 : decode cX10_gather 4 = .ok (.getfield 36, 3) := dk_180 0 36 (dk_at dksX10_gather_0 4 rfl rfl)
theorem dX10_gather_7 : decode cX10_gather 7 = .ok (.getfield 62, 3) := dk_180 0 62 (dk_at dksX10_gather_0 7 rfl rfl)
theorem dX10_gather_10 : decode cX10_gather 10 = .ok (.invokevirtual 45, 3) := dk_182 0 45 (dk_at dksX10_gather_0 10 rfl rfl)
theorem dX10_gather_13 : decode cX10_gather 13 = .ok (.if_icmp .ge 74, 3) := dk_162 0 74 (dk_at dksX10_gather_0 13 rfl rfl)
theorem dX10_gather_16 : decode cX10_gather 16 = .ok (.aload_n 0, 1) := dk_42 (dk_at dksX10_gather_0 16 rfl rfl)
theorem dX10_gather_17 : decode cX10_gather 17 = .ok (.getfield 32, 3) := dk_180 0 32 (dk_at dksX10_gather_0 17 rfl rfl)
theorem dX10_gather_20 : decode cX10_gather 20 = .ok (.aload_n 0, 1) := dk_42 (dk_at dksX10_gather_0 20 rfl rfl)
theorem dX10_gather_21 : decode cX10_gather 21 = .ok (.getfield 23, 3) := dk_180 0 23 (dk_at dksX10_gather_0 21 rfl rfl)
theorem dX10_gather_24 : decode cX10_gather 24 = .ok (.iload_n 1, 1) := dk_27 (dk_at dksX10_gather_1 0 rfl rfl)
theorem dX10_gather_25 : decode cX10_gather 25 = .ok (.iaload, 1) := dk_46 (dk_at dksX10_gather_1 1 rfl rfl)
theorem dX10_gather_26 : decode cX10_gather 26 = .ok (.invokevirtual 49, 3) := dk_182 0 49 (dk_at dksX10_gather_1 2 rfl rfl)
theorem dX10_gather_29 : decode cX10_gather 29 = .ok (.checkcast 133, 3) := dk_192 0 133 (dk_at dksX10_gather_1 5 rfl rfl)
theorem dX10_gather_32 : decode cX10_gather 32 = .ok (.astore_n 2, 1) := dk_77 (dk_at dksX10_gather_1 8 rfl rfl)
theorem dX10_gather_33 : decode cX10_gather 33 = .ok (.aload_n 2, 1) := dk_44 (dk_at dksX10_gather_1 9 rfl rfl)
theorem dX10_gather_34 : decode cX10_gather 34 = .ok (.iload_n 1, 1) := dk_27 (dk_at dksX10_gather_1 10 rfl rfl)
theorem dX10_gather_35 : decode cX10_gather 35 = .ok (.aload_n 0, 1) := dk_42 (dk_at dksX10_gather_1 11 rfl rfl)
theorem dX10_gather_36 : decode cX10_gather 36 = .ok (.getfield 36, 3) := dk_180 0 36 (dk_at dksX10_gather_1 12 rfl rfl)
theorem dX10_gather_39 : decode cX10_gather 39 = .ok (.getfield 62, 3) := dk_180 0 62 (dk_at dksX10_gather_1 15 rfl rfl)
theorem dX10_gather_42 : decode cX10_gather 42 = .ok (.iload_n 1, 1) := dk_27 (dk_at dksX10_gather_1 18 rfl rfl)
theorem dX10_gather_43 : decode cX10_gather 43 = .ok (.invokevirtual 49, 3) := dk_182 0 49 (dk_at dksX10_gather_1 19 rfl rfl)
theorem dX10_gather_46 : decode cX10_gather 46 = .ok (.checkcast 65, 3) := dk_192 0 65 (dk_at dksX10_gather_2 0 rfl rfl)
theorem dX10_gather_49 : decode cX10_gather 49 = .ok (.aload_n 0, 1) := dk_42 (dk_at dksX10_gather_2 3 rfl rfl)
theorem dX10_gather_50 : decode cX10_gather 50 = .ok (.getfield 19, 3) := dk_180 0 19 (dk_at dksX10_gather_2 4 rfl rfl)
theorem dX10_gather_53 : decode cX10_gather 53 = .ok (.iload_n 1, 1) := dk_27 (dk_at dksX10_gather_2 7 rfl rfl)
theorem dX10_gather_54 : decode cX10_gather 54 = .ok (.aaload, 1) := dk_50 (dk_at dksX10_gather_2 8 rfl rfl)
theorem dX10_gather_55 : decode cX10_gather 55 = .ok (.aload_n 0, 1) := dk_42 (dk_at dksX10_gather_2 9 rfl rfl)
theorem dX10_gather_56 : decode cX10_gather 56 = .ok (.getfield 36, 3) := dk_180 0 36 (dk_at dksX10_gather_2 10 rfl rfl)
theorem dX10_gather_59 : decode cX10_gather 59 = .ok (.getfield 62, 3) := dk_180 0 62 (dk_at dksX10_gather_2 13 rfl rfl)
theorem dX10_gather_62 : decode cX10_gather 62 = .ok (.aload_n 2, 1) := dk_44 (dk_at dksX10_gather_2 16 rfl rfl)
theorem dX10_gather_63 : decode cX10_gather 63 = .ok (.getfield 154, 3) := dk_180 0 154 (dk_at dksX10_gather_2 17 rfl rfl)
theorem dX10_gather_66 : decode cX10_gather 66 = .ok (.invokevirtual 49, 3) := dk_182 0 49 (dk_at dksX10_gather_2 20 rfl rfl)
theorem dX10_gather_69 : decode cX10_gather 69 = .ok (.checkcast 65, 3) := dk_192 0 65 (dk_at dksX10_gather_3 0 rfl rfl)
theorem dX10_gather_72 : decode cX10_gather 72 = .ok (.getfield 157, 3) := dk_180 0 157 (dk_at dksX10_gather_3 3 rfl rfl)
theorem dX10_gather_75 : decode cX10_gather 75 = .ok (.invokevirtual 45, 3) := dk_182 0 45 (dk_at dksX10_gather_3 6 rfl rfl)
theorem dX10_gather_78 : decode cX10_gather 78 = .ok (.invokevirtual 160, 3) := dk_182 0 160 (dk_at dksX10_gather_3 9 rfl rfl)
theorem dX10_gather_81 : decode cX10_gather 81 = .ok (.iinc 1 1, 3) := dk_132 1 1 (dk_at dksX10_gather_3 12 rfl rfl)
theorem dX10_gather_84 : decode cX10_gather 84 = .ok (.goto (-82), 3) := dk_167 255 174 (dk_at dksX10_gather_3 15 rfl rfl)
theorem dX10_gather_87 : decode cX10_gather 87 = .ok (.return_, 1) := dk_177 (dk_at dksX10_gather_3 18 rfl rfl)
abbrev cX10_heat : ByteArray := prog_13_method_6_code
def yX10_heat : MethodName := ⟨RX10, "heat", "(I)I"⟩
def dkwX10_heat_3 : List UInt8 := [153, 0, 18, 132, 3, 1, 21, 4, 21, 4, 4, 100, 126, 54, 4, 167, 255, 239, 29, 172]
abbrev dktX10_heat_3 : List UInt8 := dkwX10_heat_3 ++ []
def dkwX10_heat_2 : List UInt8 := [180, 0, 167, 120, 167, 0, 4, 3, 128, 61, 132, 3, 1, 167, 255, 200, 3, 62, 28, 54, 4, 21, 4]
abbrev dktX10_heat_2 : List UInt8 := dkwX10_heat_2 ++ dktX10_heat_3
def dkwX10_heat_1 : List UInt8 := [50, 27, 182, 0, 163, 153, 0, 25, 4, 42, 180, 0, 36, 180, 0, 62, 29, 182, 0, 49, 192, 0, 65]
abbrev dktX10_heat_1 : List UInt8 := dkwX10_heat_1 ++ dktX10_heat_2
def dkwX10_heat_0 : List UInt8 := [3, 61, 3, 62, 29, 42, 180, 0, 36, 180, 0, 62, 182, 0, 45, 162, 0, 48, 28, 42, 180, 0, 19, 29]
abbrev dktX10_heat_0 : List UInt8 := dkwX10_heat_0 ++ dktX10_heat_1
theorem dksX10_heat_0 : cX10_heat.data.toList.drop 0 = dktX10_heat_0 := by decide +kernel
theorem dksX10_heat_1 : cX10_heat.data.toList.drop 24 = dktX10_heat_1 := dk_seg dksX10_heat_0 24 rfl rfl
theorem dksX10_heat_2 : cX10_heat.data.toList.drop 47 = dktX10_heat_2 := dk_seg dksX10_heat_1 23 rfl rfl
theorem dksX10_heat_3 : cX10_heat.data.toList.drop 70 = dktX10_heat_3 := dk_seg dksX10_heat_2 23 rfl rfl
theorem dX10_heat_0 : decode cX10_heat 0 = .ok (.iconst 0, 1) := dk_3 (dk_at dksX10_heat_0 0 rfl rfl)
theorem dX10_heat_1 : decode cX10_heat 1 = .ok (.istore_n 2, 1) := dk_61 (dk_at dksX10_heat_0 1 rfl rfl)
theorem dX10_heat_2 : decode cX10_heat 2 = .ok (.iconst 0, 1) := dk_3 (dk_at dksX10_heat_0 2 rfl rfl)
theorem dX10_heat_3 : decode cX10_heat 3 = .ok (.istore_n 3, 1) := dk_62 (dk_at dksX10_heat_0 3 rfl rfl)
theorem dX10_heat_4 : decode cX10_heat 4 = .ok (.iload_n 3, 1) := dk_29 (dk_at dksX10_heat_0 4 rfl rfl)
theorem dX10_heat_5 : decode cX10_heat 5 = .ok (.aload_n 0, 1) := dk_42 (dk_at dksX10_heat_0 5 rfl rfl)
theorem dX10_heat_6 : decode cX10_heat 6 = .ok (.getfield 36, 3) := dk_180 0 36 (dk_at dksX10_heat_0 6 rfl rfl)
theorem dX10_heat_9 : decode cX10_heat 9 = .ok (.getfield 62, 3) := dk_180 0 62 (dk_at dksX10_heat_0 9 rfl rfl)
theorem dX10_heat_12 : decode cX10_heat 12 = .ok (.invokevirtual 45, 3) := dk_182 0 45 (dk_at dksX10_heat_0 12 rfl rfl)
theorem dX10_heat_15 : decode cX10_heat 15 = .ok (.if_icmp .ge 48, 3) := dk_162 0 48 (dk_at dksX10_heat_0 15 rfl rfl)
theorem dX10_heat_18 : decode cX10_heat 18 = .ok (.iload_n 2, 1) := dk_28 (dk_at dksX10_heat_0 18 rfl rfl)
theorem dX10_heat_19 : decode cX10_heat 19 = .ok (.aload_n 0, 1) := dk_42 (dk_at dksX10_heat_0 19 rfl rfl)
theorem dX10_heat_20 : decode cX10_heat 20 = .ok (.getfield 19, 3) := dk_180 0 19 (dk_at dksX10_heat_0 20 rfl rfl)
theorem dX10_heat_23 : decode cX10_heat 23 = .ok (.iload_n 3, 1) := dk_29 (dk_at dksX10_heat_0 23 rfl rfl)
theorem dX10_heat_24 : decode cX10_heat 24 = .ok (.aaload, 1) := dk_50 (dk_at dksX10_heat_1 0 rfl rfl)
theorem dX10_heat_25 : decode cX10_heat 25 = .ok (.iload_n 1, 1) := dk_27 (dk_at dksX10_heat_1 1 rfl rfl)
theorem dX10_heat_26 : decode cX10_heat 26 = .ok (.invokevirtual 163, 3) := dk_182 0 163 (dk_at dksX10_heat_1 2 rfl rfl)
theorem dX10_heat_29 : decode cX10_heat 29 = .ok (.ifCond .eq 25, 3) := dk_153 0 25 (dk_at dksX10_heat_1 5 rfl rfl)
theorem dX10_heat_32 : decode cX10_heat 32 = .ok (.iconst 1, 1) := dk_4 (dk_at dksX10_heat_1 8 rfl rfl)
theorem dX10_heat_33 : decode cX10_heat 33 = .ok (.aload_n 0, 1) := dk_42 (dk_at dksX10_heat_1 9 rfl rfl)
theorem dX10_heat_34 : decode cX10_heat 34 = .ok (.getfield 36, 3) := dk_180 0 36 (dk_at dksX10_heat_1 10 rfl rfl)
theorem dX10_heat_37 : decode cX10_heat 37 = .ok (.getfield 62, 3) := dk_180 0 62 (dk_at dksX10_heat_1 13 rfl rfl)
theorem dX10_heat_40 : decode cX10_heat 40 = .ok (.iload_n 3, 1) := dk_29 (dk_at dksX10_heat_1 16 rfl rfl)
theorem dX10_heat_41 : decode cX10_heat 41 = .ok (.invokevirtual 49, 3) := dk_182 0 49 (dk_at dksX10_heat_1 17 rfl rfl)
theorem dX10_heat_44 : decode cX10_heat 44 = .ok (.checkcast 65, 3) := dk_192 0 65 (dk_at dksX10_heat_1 20 rfl rfl)
theorem dX10_heat_47 : decode cX10_heat 47 = .ok (.getfield 167, 3) := dk_180 0 167 (dk_at dksX10_heat_2 0 rfl rfl)
theorem dX10_heat_50 : decode cX10_heat 50 = .ok (.ishl, 1) := dk_120 (dk_at dksX10_heat_2 3 rfl rfl)
theorem dX10_heat_51 : decode cX10_heat 51 = .ok (.goto 4, 3) := dk_167 0 4 (dk_at dksX10_heat_2 4 rfl rfl)
theorem dX10_heat_54 : decode cX10_heat 54 = .ok (.iconst 0, 1) := dk_3 (dk_at dksX10_heat_2 7 rfl rfl)
theorem dX10_heat_55 : decode cX10_heat 55 = .ok (.ior, 1) := dk_128 (dk_at dksX10_heat_2 8 rfl rfl)
theorem dX10_heat_56 : decode cX10_heat 56 = .ok (.istore_n 2, 1) := dk_61 (dk_at dksX10_heat_2 9 rfl rfl)
theorem dX10_heat_57 : decode cX10_heat 57 = .ok (.iinc 3 1, 3) := dk_132 3 1 (dk_at dksX10_heat_2 10 rfl rfl)
theorem dX10_heat_60 : decode cX10_heat 60 = .ok (.goto (-56), 3) := dk_167 255 200 (dk_at dksX10_heat_2 13 rfl rfl)
theorem dX10_heat_63 : decode cX10_heat 63 = .ok (.iconst 0, 1) := dk_3 (dk_at dksX10_heat_2 16 rfl rfl)
theorem dX10_heat_64 : decode cX10_heat 64 = .ok (.istore_n 3, 1) := dk_62 (dk_at dksX10_heat_2 17 rfl rfl)
theorem dX10_heat_65 : decode cX10_heat 65 = .ok (.iload_n 2, 1) := dk_28 (dk_at dksX10_heat_2 18 rfl rfl)
theorem dX10_heat_66 : decode cX10_heat 66 = .ok (.istore 4, 2) := dk_54 4 (dk_at dksX10_heat_2 19 rfl rfl)
theorem dX10_heat_68 : decode cX10_heat 68 = .ok (.iload 4, 2) := dk_21 4 (dk_at dksX10_heat_2 21 rfl rfl)
theorem dX10_heat_70 : decode cX10_heat 70 = .ok (.ifCond .eq 18, 3) := dk_153 0 18 (dk_at dksX10_heat_3 0 rfl rfl)
theorem dX10_heat_73 : decode cX10_heat 73 = .ok (.iinc 3 1, 3) := dk_132 3 1 (dk_at dksX10_heat_3 3 rfl rfl)
theorem dX10_heat_76 : decode cX10_heat 76 = .ok (.iload 4, 2) := dk_21 4 (dk_at dksX10_heat_3 6 rfl rfl)
theorem dX10_heat_78 : decode cX10_heat 78 = .ok (.iload 4, 2) := dk_21 4 (dk_at dksX10_heat_3 8 rfl rfl)
theorem dX10_heat_80 : decode cX10_heat 80 = .ok (.iconst 1, 1) := dk_4 (dk_at dksX10_heat_3 10 rfl rfl)
theorem dX10_heat_81 : decode cX10_heat 81 = .ok (.isub, 1) := dk_100 (dk_at dksX10_heat_3 11 rfl rfl)
theorem dX10_heat_82 : decode cX10_heat 82 = .ok (.iand, 1) := dk_126 (dk_at dksX10_heat_3 12 rfl rfl)
theorem dX10_heat_83 : decode cX10_heat 83 = .ok (.istore 4, 2) := dk_54 4 (dk_at dksX10_heat_3 13 rfl rfl)
theorem dX10_heat_85 : decode cX10_heat 85 = .ok (.goto (-17), 3) := dk_167 255 239 (dk_at dksX10_heat_3 15 rfl rfl)
theorem dX10_heat_88 : decode cX10_heat 88 = .ok (.iload_n 3, 1) := dk_29 (dk_at dksX10_heat_3 18 rfl rfl)
theorem dX10_heat_89 : decode cX10_heat 89 = .ok (.ireturn, 1) := dk_172 (dk_at dksX10_heat_3 19 rfl rfl)
abbrev cX10_margin : ByteArray := prog_13_method_8_code
def yX10_margin : MethodName := ⟨RX10, "margin", "(I)[I"⟩
def dkwX10_margin_9 : List UInt8 := [21, 7, 96, 25, 5, 180, 0, 209, 79, 132, 7, 1, 167, 255, 224, 167, 255, 153, 45, 176]
abbrev dktX10_margin_9 : List UInt8 := dkwX10_margin_9 ++ []
def dkwX10_margin_8 : List UInt8 := [79, 3, 54, 7, 21, 7, 42, 25, 5, 182, 0, 201, 162, 0, 27, 21, 6, 2, 159, 0, 21, 45, 21, 6]
abbrev dktX10_margin_8 : List UInt8 := dkwX10_margin_8 ++ dktX10_margin_9
def dkwX10_margin_7 : List UInt8 := [44, 180, 0, 170, 184, 0, 205, 54, 6, 21, 6, 2, 160, 0, 13, 45, 44, 180, 0, 170, 92, 46, 4, 96]
abbrev dktX10_margin_7 : List UInt8 := dkwX10_margin_7 ++ dktX10_margin_8
def dkwX10_margin_6 : List UInt8 := [58, 5, 45, 44, 180, 0, 198, 25, 5, 180, 0, 184, 46, 44, 180, 0, 170, 112, 42, 25, 5, 182, 0, 201]
abbrev dktX10_margin_6 : List UInt8 := dkwX10_margin_6 ++ dktX10_margin_7
def dkwX10_margin_5 : List UInt8 := [182, 0, 191, 87, 167, 255, 204, 25, 4, 182, 0, 192, 154, 0, 101, 25, 4, 182, 0, 195, 192, 0, 133]
abbrev dktX10_margin_5 : List UInt8 := dkwX10_margin_5 ++ dktX10_margin_6
def dkwX10_margin_4 : List UInt8 := [180, 0, 184, 2, 159, 0, 24, 44, 25, 6, 180, 0, 184, 182, 0, 187, 27, 160, 0, 11, 25, 4, 25, 6]
abbrev dktX10_margin_4 : List UInt8 := dkwX10_margin_4 ++ dktX10_margin_5
def dkwX10_margin_3 : List UInt8 := [185, 0, 86, 1, 0, 153, 0, 48, 25, 5, 185, 0, 92, 1, 0, 192, 0, 133, 58, 6, 25, 6]
abbrev dktX10_margin_3 : List UInt8 := dkwX10_margin_3 ++ dktX10_margin_4
def dkwX10_margin_2 : List UInt8 := [89, 44, 183, 0, 177, 183, 0, 180, 58, 4, 42, 180, 0, 32, 182, 0, 183, 58, 5, 25, 5]
abbrev dktX10_margin_2 : List UInt8 := dkwX10_margin_2 ++ dktX10_margin_3
def dkwX10_margin_1 : List UInt8 := [180, 0, 170, 162, 0, 14, 45, 21, 4, 2, 79, 132, 4, 1, 167, 255, 239, 187, 0, 173, 89, 187, 0, 175]
abbrev dktX10_margin_1 : List UInt8 := dkwX10_margin_1 ++ dktX10_margin_2
def dkwX10_margin_0 : List UInt8 := [42, 180, 0, 36, 182, 0, 55, 77, 44, 180, 0, 170, 4, 96, 188, 10, 78, 3, 54, 4, 21, 4, 44]
abbrev dktX10_margin_0 : List UInt8 := dkwX10_margin_0 ++ dktX10_margin_1
theorem dksX10_margin_0 : cX10_margin.data.toList.drop 0 = dktX10_margin_0 := by decide +kernel
theorem dksX10_margin_1 : cX10_margin.data.toList.drop 23 = dktX10_margin_1 := dk_seg dksX10_margin_0 23 rfl rfl
theorem dksX10_margin_2 : cX10_margin.data.toList.drop 47 = dktX10_margin_2 := dk_seg dksX10_margin_1 24 rfl rfl
theorem dksX10_margin_3 : cX10_margin.data.toList.drop 68 = dktX10_margin_3 := dk_seg dksX10_margin_2 21 rfl rfl
theorem dksX10_margin_4 : cX10_margin.data.toList.drop 90 = dktX10_margin_4 := dk_seg dksX10_margin_3 22 rfl rfl
theorem dksX10_margin_5 : cX10_margin.data.toList.drop 114 = dktX10_margin_5 := dk_seg dksX10_margin_4 24 rfl rfl
theorem dksX10_margin_6 : cX10_margin.data.toList.drop 137 = dktX10_margin_6 := dk_seg dksX10_margin_5 23 rfl rfl
theorem dksX10_margin_7 : cX10_margin.data.toList.drop 161 = dktX10_margin_7 := dk_seg dksX10_margin_6 24 rfl rfl
theorem dksX10_margin_8 : cX10_margin.data.toList.drop 185 = dktX10_margin_8 := dk_seg dksX10_margin_7 24 rfl rfl
theorem dksX10_margin_9 : cX10_margin.data.toList.drop 209 = dktX10_margin_9 := dk_seg dksX10_margin_8 24 rfl rfl
theorem dX10_margin_0 : decode cX10_margin 0 = .ok (.aload_n 0, 1) := dk_42 (dk_at dksX10_margin_0 0 rfl rfl)
theorem dX10_margin_1 : decode cX10_margin 1 = .ok (.getfield 36, 3) := dk_180 0 36 (dk_at dksX10_margin_0 1 rfl rfl)
theorem dX10_margin_4 : decode cX10_margin 4 = .ok (.invokevirtual 55, 3) := dk_182 0 55 (dk_at dksX10_margin_0 4 rfl rfl)
theorem dX10_margin_7 : decode cX10_margin 7 = .ok (.astore_n 2, 1) := dk_77 (dk_at dksX10_margin_0 7 rfl rfl)
theorem dX10_margin_8 : decode cX10_margin 8 = .ok (.aload_n 2, 1) := dk_44 (dk_at dksX10_margin_0 8 rfl rfl)
theorem dX10_margin_9 : decode cX10_margin 9 = .ok (.getfield 170, 3) := dk_180 0 170 (dk_at dksX10_margin_0 9 rfl rfl)
theorem dX10_margin_12 : decode cX10_margin 12 = .ok (.iconst 1, 1) := dk_4 (dk_at dksX10_margin_0 12 rfl rfl)
theorem dX10_margin_13 : decode cX10_margin 13 = .ok (.iadd, 1) := dk_96 (dk_at dksX10_margin_0 13 rfl rfl)
theorem dX10_margin_14 : decode cX10_margin 14 = .ok (.newarray .int, 2) := dk_188_10 (dk_at dksX10_margin_0 14 rfl rfl)
theorem dX10_margin_16 : decode cX10_margin 16 = .ok (.astore_n 3, 1) := dk_78 (dk_at dksX10_margin_0 16 rfl rfl)
theorem dX10_margin_17 : decode cX10_margin 17 = .ok (.iconst 0, 1) := dk_3 (dk_at dksX10_margin_0 17 rfl rfl)
theorem dX10_margin_18 : decode cX10_margin 18 = .ok (.istore 4, 2) := dk_54 4 (dk_at dksX10_margin_0 18 rfl rfl)
theorem dX10_margin_20 : decode cX10_margin 20 = .ok (.iload 4, 2) := dk_21 4 (dk_at dksX10_margin_0 20 rfl rfl)
theorem dX10_margin_22 : decode cX10_margin 22 = .ok (.aload_n 2, 1) := dk_44 (dk_at dksX10_margin_0 22 rfl rfl)
theorem dX10_margin_23 : decode cX10_margin 23 = .ok (.getfield 170, 3) := dk_180 0 170 (dk_at dksX10_margin_1 0 rfl rfl)
theorem dX10_margin_26 : decode cX10_margin 26 = .ok (.if_icmp .ge 14, 3) := dk_162 0 14 (dk_at dksX10_margin_1 3 rfl rfl)
theorem dX10_margin_29 : decode cX10_margin 29 = .ok (.aload_n 3, 1) := dk_45 (dk_at dksX10_margin_1 6 rfl rfl)
theorem dX10_margin_30 : decode cX10_margin 30 = .ok (.iload 4, 2) := dk_21 4 (dk_at dksX10_margin_1 7 rfl rfl)
theorem dX10_margin_32 : decode cX10_margin 32 = .ok (.iconst (-1), 1) := dk_2 (dk_at dksX10_margin_1 9 rfl rfl)
theorem dX10_margin_33 : decode cX10_margin 33 = .ok (.iastore, 1) := dk_79 (dk_at dksX10_margin_1 10 rfl rfl)
theorem dX10_margin_34 : decode cX10_margin 34 = .ok (.iinc 4 1, 3) := dk_132 4 1 (dk_at dksX10_margin_1 11 rfl rfl)
theorem dX10_margin_37 : decode cX10_margin 37 = .ok (.goto (-17), 3) := dk_167 255 239 (dk_at dksX10_margin_1 14 rfl rfl)
theorem dX10_margin_40 : decode cX10_margin 40 = .ok (.new 173, 3) := dk_187 0 173 (dk_at dksX10_margin_1 17 rfl rfl)
theorem dX10_margin_43 : decode cX10_margin 43 = .ok (.dup, 1) := dk_89 (dk_at dksX10_margin_1 20 rfl rfl)
theorem dX10_margin_44 : decode cX10_margin 44 = .ok (.new 175, 3) := dk_187 0 175 (dk_at dksX10_margin_1 21 rfl rfl)
theorem dX10_margin_47 : decode cX10_margin 47 = .ok (.dup, 1) := dk_89 (dk_at dksX10_margin_2 0 rfl rfl)
theorem dX10_margin_48 : decode cX10_margin 48 = .ok (.aload_n 2, 1) := dk_44 (dk_at dksX10_margin_2 1 rfl rfl)
theorem dX10_margin_49 : decode cX10_margin 49 = .ok (.invokespecial 177, 3) := dk_183 0 177 (dk_at dksX10_margin_2 2 rfl rfl)
theorem dX10_margin_52 : decode cX10_margin 52 = .ok (.invokespecial 180, 3) := dk_183 0 180 (dk_at dksX10_margin_2 5 rfl rfl)
theorem dX10_margin_55 : decode cX10_margin 55 = .ok (.astore 4, 2) := dk_58 4 (dk_at dksX10_margin_2 8 rfl rfl)
theorem dX10_margin_57 : decode cX10_margin 57 = .ok (.aload_n 0, 1) := dk_42 (dk_at dksX10_margin_2 10 rfl rfl)
theorem dX10_margin_58 : decode cX10_margin 58 = .ok (.getfield 32, 3) := dk_180 0 32 (dk_at dksX10_margin_2 11 rfl rfl)
theorem dX10_margin_61 : decode cX10_margin 61 = .ok (.invokevirtual 183, 3) := dk_182 0 183 (dk_at dksX10_margin_2 14 rfl rfl)
theorem dX10_margin_64 : decode cX10_margin 64 = .ok (.astore 5, 2) := dk_58 5 (dk_at dksX10_margin_2 17 rfl rfl)
theorem dX10_margin_66 : decode cX10_margin 66 = .ok (.aload 5, 2) := dk_25 5 (dk_at dksX10_margin_2 19 rfl rfl)
theorem dX10_margin_68 : decode cX10_margin 68 = .ok (.invokeinterface 86 1, 5) := by decide +kernel
theorem dX10_margin_73 : decode cX10_margin 73 = .ok (.ifCond .eq 48, 3) := dk_153 0 48 (dk_at dksX10_margin_3 5 rfl rfl)
theorem dX10_margin_76 : decode cX10_margin 76 = .ok (.aload 5, 2) := dk_25 5 (dk_at dksX10_margin_3 8 rfl rfl)
theorem dX10_margin_78 : decode cX10_margin 78 = .ok (.invokeinterface 92 1, 5) := by decide +kernel
theorem dX10_margin_83 : decode cX10_margin 83 = .ok (.checkcast 133, 3) := dk_192 0 133 (dk_at dksX10_margin_3 15 rfl rfl)
theorem dX10_margin_86 : decode cX10_margin 86 = .ok (.astore 6, 2) := dk_58 6 (dk_at dksX10_margin_3 18 rfl rfl)
theorem dX10_margin_88 : decode cX10_margin 88 = .ok (.aload 6, 2) := dk_25 6 (dk_at dksX10_margin_3 20 rfl rfl)
theorem dX10_margin_90 : decode cX10_margin 90 = .ok (.getfield 184, 3) := dk_180 0 184 (dk_at dksX10_margin_4 0 rfl rfl)
theorem dX10_margin_93 : decode cX10_margin 93 = .ok (.iconst (-1), 1) := dk_2 (dk_at dksX10_margin_4 3 rfl rfl)
theorem dX10_margin_94 : decode cX10_margin 94 = .ok (.if_icmp .eq 24, 3) := dk_159 0 24 (dk_at dksX10_margin_4 4 rfl rfl)
theorem dX10_margin_97 : decode cX10_margin 97 = .ok (.aload_n 2, 1) := dk_44 (dk_at dksX10_margin_4 7 rfl rfl)
theorem dX10_margin_98 : decode cX10_margin 98 = .ok (.aload 6, 2) := dk_25 6 (dk_at dksX10_margin_4 8 rfl rfl)
theorem dX10_margin_100 : decode cX10_margin 100 = .ok (.getfield 184, 3) := dk_180 0 184 (dk_at dksX10_margin_4 10 rfl rfl)
theorem dX10_margin_103 : decode cX10_margin 103 = .ok (.invokevirtual 187, 3) := dk_182 0 187 (dk_at dksX10_margin_4 13 rfl rfl)
theorem dX10_margin_106 : decode cX10_margin 106 = .ok (.iload_n 1, 1) := dk_27 (dk_at dksX10_margin_4 16 rfl rfl)
theorem dX10_margin_107 : decode cX10_margin 107 = .ok (.if_icmp .ne 11, 3) := dk_160 0 11 (dk_at dksX10_margin_4 17 rfl rfl)
theorem dX10_margin_110 : decode cX10_margin 110 = .ok (.aload 4, 2) := dk_25 4 (dk_at dksX10_margin_4 20 rfl rfl)
theorem dX10_margin_112 : decode cX10_margin 112 = .ok (.aload 6, 2) := dk_25 6 (dk_at dksX10_margin_4 22 rfl rfl)
theorem dX10_margin_114 : decode cX10_margin 114 = .ok (.invokevirtual 191, 3) := dk_182 0 191 (dk_at dksX10_margin_5 0 rfl rfl)
theorem dX10_margin_117 : decode cX10_margin 117 = .ok (.pop, 1) := dk_87 (dk_at dksX10_margin_5 3 rfl rfl)
theorem dX10_margin_118 : decode cX10_margin 118 = .ok (.goto (-52), 3) := dk_167 255 204 (dk_at dksX10_margin_5 4 rfl rfl)
theorem dX10_margin_121 : decode cX10_margin 121 = .ok (.aload 4, 2) := dk_25 4 (dk_at dksX10_margin_5 7 rfl rfl)
theorem dX10_margin_123 : decode cX10_margin 123 = .ok (.invokevirtual 192, 3) := dk_182 0 192 (dk_at dksX10_margin_5 9 rfl rfl)
theorem dX10_margin_126 : decode cX10_margin 126 = .ok (.ifCond .ne 101, 3) := dk_154 0 101 (dk_at dksX10_margin_5 12 rfl rfl)
theorem dX10_margin_129 : decode cX10_margin 129 = .ok (.aload 4, 2) := dk_25 4 (dk_at dksX10_margin_5 15 rfl rfl)
theorem dX10_margin_131 : decode cX10_margin 131 = .ok (.invokevirtual 195, 3) := dk_182 0 195 (dk_at dksX10_margin_5 17 rfl rfl)
theorem dX10_margin_134 : decode cX10_margin 134 = .ok (.checkcast 133, 3) := dk_192 0 133 (dk_at dksX10_margin_5 20 rfl rfl)
theorem dX10_margin_137 : decode cX10_margin 137 = .ok (.astore 5, 2) := dk_58 5 (dk_at dksX10_margin_6 0 rfl rfl)
theorem dX10_margin_139 : decode cX10_margin 139 = .ok (.aload_n 3, 1) := dk_45 (dk_at dksX10_margin_6 2 rfl rfl)
theorem dX10_margin_140 : decode cX10_margin 140 = .ok (.aload_n 2, 1) := dk_44 (dk_at dksX10_margin_6 3 rfl rfl)
theorem dX10_margin_141 : decode cX10_margin 141 = .ok (.getfield 198, 3) := dk_180 0 198 (dk_at dksX10_margin_6 4 rfl rfl)
theorem dX10_margin_144 : decode cX10_margin 144 = .ok (.aload 5, 2) := dk_25 5 (dk_at dksX10_margin_6 7 rfl rfl)
theorem dX10_margin_146 : decode cX10_margin 146 = .ok (.getfield 184, 3) := dk_180 0 184 (dk_at dksX10_margin_6 9 rfl rfl)
theorem dX10_margin_149 : decode cX10_margin 149 = .ok (.iaload, 1) := dk_46 (dk_at dksX10_margin_6 12 rfl rfl)
theorem dX10_margin_150 : decode cX10_margin 150 = .ok (.aload_n 2, 1) := dk_44 (dk_at dksX10_margin_6 13 rfl rfl)
theorem dX10_margin_151 : decode cX10_margin 151 = .ok (.getfield 170, 3) := dk_180 0 170 (dk_at dksX10_margin_6 14 rfl rfl)
theorem dX10_margin_154 : decode cX10_margin 154 = .ok (.irem, 1) := dk_112 (dk_at dksX10_margin_6 17 rfl rfl)
theorem dX10_margin_155 : decode cX10_margin 155 = .ok (.aload_n 0, 1) := dk_42 (dk_at dksX10_margin_6 18 rfl rfl)
theorem dX10_margin_156 : decode cX10_margin 156 = .ok (.aload 5, 2) := dk_25 5 (dk_at dksX10_margin_6 19 rfl rfl)
theorem dX10_margin_158 : decode cX10_margin 158 = .ok (.invokevirtual 201, 3) := dk_182 0 201 (dk_at dksX10_margin_6 21 rfl rfl)
theorem dX10_margin_161 : decode cX10_margin 161 = .ok (.aload_n 2, 1) := dk_44 (dk_at dksX10_margin_7 0 rfl rfl)
theorem dX10_margin_162 : decode cX10_margin 162 = .ok (.getfield 170, 3) := dk_180 0 170 (dk_at dksX10_margin_7 1 rfl rfl)
theorem dX10_margin_165 : decode cX10_margin 165 = .ok (.invokestatic 205, 3) := dk_184 0 205 (dk_at dksX10_margin_7 4 rfl rfl)
theorem dX10_margin_168 : decode cX10_margin 168 = .ok (.istore 6, 2) := dk_54 6 (dk_at dksX10_margin_7 7 rfl rfl)
theorem dX10_margin_170 : decode cX10_margin 170 = .ok (.iload 6, 2) := dk_21 6 (dk_at dksX10_margin_7 9 rfl rfl)
theorem dX10_margin_172 : decode cX10_margin 172 = .ok (.iconst (-1), 1) := dk_2 (dk_at dksX10_margin_7 11 rfl rfl)
theorem dX10_margin_173 : decode cX10_margin 173 = .ok (.if_icmp .ne 13, 3) := dk_160 0 13 (dk_at dksX10_margin_7 12 rfl rfl)
theorem dX10_margin_176 : decode cX10_margin 176 = .ok (.aload_n 3, 1) := dk_45 (dk_at dksX10_margin_7 15 rfl rfl)
theorem dX10_margin_177 : decode cX10_margin 177 = .ok (.aload_n 2, 1) := dk_44 (dk_at dksX10_margin_7 16 rfl rfl)
theorem dX10_margin_178 : decode cX10_margin 178 = .ok (.getfield 170, 3) := dk_180 0 170 (dk_at dksX10_margin_7 17 rfl rfl)
theorem dX10_margin_181 : decode cX10_margin 181 = .ok (.dup2, 1) := dk_92 (dk_at dksX10_margin_7 20 rfl rfl)
theorem dX10_margin_182 : decode cX10_margin 182 = .ok (.iaload, 1) := dk_46 (dk_at dksX10_margin_7 21 rfl rfl)
theorem dX10_margin_183 : decode cX10_margin 183 = .ok (.iconst 1, 1) := dk_4 (dk_at dksX10_margin_7 22 rfl rfl)
theorem dX10_margin_184 : decode cX10_margin 184 = .ok (.iadd, 1) := dk_96 (dk_at dksX10_margin_7 23 rfl rfl)
theorem dX10_margin_185 : decode cX10_margin 185 = .ok (.iastore, 1) := dk_79 (dk_at dksX10_margin_8 0 rfl rfl)
theorem dX10_margin_186 : decode cX10_margin 186 = .ok (.iconst 0, 1) := dk_3 (dk_at dksX10_margin_8 1 rfl rfl)
theorem dX10_margin_187 : decode cX10_margin 187 = .ok (.istore 7, 2) := dk_54 7 (dk_at dksX10_margin_8 2 rfl rfl)
theorem dX10_margin_189 : decode cX10_margin 189 = .ok (.iload 7, 2) := dk_21 7 (dk_at dksX10_margin_8 4 rfl rfl)
theorem dX10_margin_191 : decode cX10_margin 191 = .ok (.aload_n 0, 1) := dk_42 (dk_at dksX10_margin_8 6 rfl rfl)
theorem dX10_margin_192 : decode cX10_margin 192 = .ok (.aload 5, 2) := dk_25 5 (dk_at dksX10_margin_8 7 rfl rfl)
theorem dX10_margin_194 : decode cX10_margin 194 = .ok (.invokevirtual 201, 3) := dk_182 0 201 (dk_at dksX10_margin_8 9 rfl rfl)
theorem dX10_margin_197 : decode cX10_margin 197 = .ok (.if_icmp .ge 27, 3) := dk_162 0 27 (dk_at dksX10_margin_8 12 rfl rfl)
theorem dX10_margin_200 : decode cX10_margin 200 = .ok (.iload 6, 2) := dk_21 6 (dk_at dksX10_margin_8 15 rfl rfl)
theorem dX10_margin_202 : decode cX10_margin 202 = .ok (.iconst (-1), 1) := dk_2 (dk_at dksX10_margin_8 17 rfl rfl)
theorem dX10_margin_203 : decode cX10_margin 203 = .ok (.if_icmp .eq 21, 3) := dk_159 0 21 (dk_at dksX10_margin_8 18 rfl rfl)
theorem dX10_margin_206 : decode cX10_margin 206 = .ok (.aload_n 3, 1) := dk_45 (dk_at dksX10_margin_8 21 rfl rfl)
theorem dX10_margin_207 : decode cX10_margin 207 = .ok (.iload 6, 2) := dk_21 6 (dk_at dksX10_margin_8 22 rfl rfl)
theorem dX10_margin_209 : decode cX10_margin 209 = .ok (.iload 7, 2) := dk_21 7 (dk_at dksX10_margin_9 0 rfl rfl)
theorem dX10_margin_211 : decode cX10_margin 211 = .ok (.iadd, 1) := dk_96 (dk_at dksX10_margin_9 2 rfl rfl)
theorem dX10_margin_212 : decode cX10_margin 212 = .ok (.aload 5, 2) := dk_25 5 (dk_at dksX10_margin_9 3 rfl rfl)
theorem dX10_margin_214 : decode cX10_margin 214 = .ok (.getfield 209, 3) := dk_180 0 209 (dk_at dksX10_margin_9 5 rfl rfl)
theorem dX10_margin_217 : decode cX10_margin 217 = .ok (.iastore, 1) := dk_79 (dk_at dksX10_margin_9 8 rfl rfl)
theorem dX10_margin_218 : decode cX10_margin 218 = .ok (.iinc 7 1, 3) := dk_132 7 1 (dk_at dksX10_margin_9 9 rfl rfl)
theorem dX10_margin_221 : decode cX10_margin 221 = .ok (.goto (-32), 3) := dk_167 255 224 (dk_at dksX10_margin_9 12 rfl rfl)
theorem dX10_margin_224 : decode cX10_margin 224 = .ok (.goto (-103), 3) := dk_167 255 153 (dk_at dksX10_margin_9 15 rfl rfl)
theorem dX10_margin_227 : decode cX10_margin 227 = .ok (.aload_n 3, 1) := dk_45 (dk_at dksX10_margin_9 18 rfl rfl)
theorem dX10_margin_228 : decode cX10_margin 228 = .ok (.areturn, 1) := dk_176 (dk_at dksX10_margin_9 19 rfl rfl)
abbrev cX10_rowsOf : ByteArray := prog_13_method_7_code
def yX10_rowsOf : MethodName := ⟨RX10, "rowsOf", "(LNoteImporter$Group;)I"⟩
def dkwX10_rowsOf_1 : List UInt8 := [164, 0, 7, 5, 167, 0, 4, 4, 172]
abbrev dktX10_rowsOf_1 : List UInt8 := dkwX10_rowsOf_1 ++ []
def dkwX10_rowsOf_0 : List UInt8 := [42, 180, 0, 36, 180, 0, 62, 43, 180, 0, 154, 182, 0, 49, 192, 0, 65, 180, 0, 157, 182, 0, 45, 6]
abbrev dktX10_rowsOf_0 : List UInt8 := dkwX10_rowsOf_0 ++ dktX10_rowsOf_1
theorem dksX10_rowsOf_0 : cX10_rowsOf.data.toList.drop 0 = dktX10_rowsOf_0 := by decide +kernel
theorem dksX10_rowsOf_1 : cX10_rowsOf.data.toList.drop 24 = dktX10_rowsOf_1 := dk_seg dksX10_rowsOf_0 24 rfl rfl
theorem dX10_rowsOf_0 : decode cX10_rowsOf 0 = .ok (.aload_n 0, 1) := dk_42 (dk_at dksX10_rowsOf_0 0 rfl rfl)
theorem dX10_rowsOf_1 : decode cX10_rowsOf 1 = .ok (.getfield 36, 3) := dk_180 0 36 (dk_at dksX10_rowsOf_0 1 rfl rfl)
theorem dX10_rowsOf_4 : decode cX10_rowsOf 4 = .ok (.getfield 62, 3) := dk_180 0 62 (dk_at dksX10_rowsOf_0 4 rfl rfl)
theorem dX10_rowsOf_7 : decode cX10_rowsOf 7 = .ok (.aload_n 1, 1) := dk_43 (dk_at dksX10_rowsOf_0 7 rfl rfl)
theorem dX10_rowsOf_8 : decode cX10_rowsOf 8 = .ok (.getfield 154, 3) := dk_180 0 154 (dk_at dksX10_rowsOf_0 8 rfl rfl)
theorem dX10_rowsOf_11 : decode cX10_rowsOf 11 = .ok (.invokevirtual 49, 3) := dk_182 0 49 (dk_at dksX10_rowsOf_0 11 rfl rfl)
theorem dX10_rowsOf_14 : decode cX10_rowsOf 14 = .ok (.checkcast 65, 3) := dk_192 0 65 (dk_at dksX10_rowsOf_0 14 rfl rfl)
theorem dX10_rowsOf_17 : decode cX10_rowsOf 17 = .ok (.getfield 157, 3) := dk_180 0 157 (dk_at dksX10_rowsOf_0 17 rfl rfl)
theorem dX10_rowsOf_20 : decode cX10_rowsOf 20 = .ok (.invokevirtual 45, 3) := dk_182 0 45 (dk_at dksX10_rowsOf_0 20 rfl rfl)
theorem dX10_rowsOf_23 : decode cX10_rowsOf 23 = .ok (.iconst 3, 1) := dk_6 (dk_at dksX10_rowsOf_0 23 rfl rfl)
theorem dX10_rowsOf_24 : decode cX10_rowsOf 24 = .ok (.if_icmp .le 7, 3) := dk_164 0 7 (dk_at dksX10_rowsOf_1 0 rfl rfl)
theorem dX10_rowsOf_27 : decode cX10_rowsOf 27 = .ok (.iconst 2, 1) := dk_5 (dk_at dksX10_rowsOf_1 3 rfl rfl)
theorem dX10_rowsOf_28 : decode cX10_rowsOf 28 = .ok (.goto 4, 3) := dk_167 0 4 (dk_at dksX10_rowsOf_1 4 rfl rfl)
theorem dX10_rowsOf_31 : decode cX10_rowsOf 31 = .ok (.iconst 1, 1) := dk_4 (dk_at dksX10_rowsOf_1 7 rfl rfl)
theorem dX10_rowsOf_32 : decode cX10_rowsOf 32 = .ok (.ireturn, 1) := dk_172 (dk_at dksX10_rowsOf_1 8 rfl rfl)
abbrev cX10_free : ByteArray := prog_13_method_9_code
def yX10_free : MethodName := ⟨RX10, "free", "([IIII)I"⟩
def dkwX10_free_2 : List UInt8 := [167, 255, 226, 21, 5, 153, 0, 6, 21, 4, 172, 132, 4, 1, 167, 255, 198, 2, 172]
abbrev dktX10_free_2 : List UInt8 := dkwX10_free_2 ++ []
def dkwX10_free_1 : List UInt8 := [21, 5, 42, 21, 4, 21, 6, 96, 46, 2, 160, 0, 7, 4, 167, 0, 4, 3, 126, 54, 5, 132, 6, 1]
abbrev dktX10_free_1 : List UInt8 := dkwX10_free_1 ++ dktX10_free_2
def dkwX10_free_0 : List UInt8 := [27, 54, 4, 21, 4, 28, 96, 29, 163, 0, 56, 4, 54, 5, 3, 54, 6, 21, 6, 28, 162, 0, 30]
abbrev dktX10_free_0 : List UInt8 := dkwX10_free_0 ++ dktX10_free_1
theorem dksX10_free_0 : cX10_free.data.toList.drop 0 = dktX10_free_0 := by decide +kernel
theorem dksX10_free_1 : cX10_free.data.toList.drop 23 = dktX10_free_1 := dk_seg dksX10_free_0 23 rfl rfl
theorem dksX10_free_2 : cX10_free.data.toList.drop 47 = dktX10_free_2 := dk_seg dksX10_free_1 24 rfl rfl
theorem dX10_free_0 : decode cX10_free 0 = .ok (.iload_n 1, 1) := dk_27 (dk_at dksX10_free_0 0 rfl rfl)
theorem dX10_free_1 : decode cX10_free 1 = .ok (.istore 4, 2) := dk_54 4 (dk_at dksX10_free_0 1 rfl rfl)
theorem dX10_free_3 : decode cX10_free 3 = .ok (.iload 4, 2) := dk_21 4 (dk_at dksX10_free_0 3 rfl rfl)
theorem dX10_free_5 : decode cX10_free 5 = .ok (.iload_n 2, 1) := dk_28 (dk_at dksX10_free_0 5 rfl rfl)
theorem dX10_free_6 : decode cX10_free 6 = .ok (.iadd, 1) := dk_96 (dk_at dksX10_free_0 6 rfl rfl)
theorem dX10_free_7 : decode cX10_free 7 = .ok (.iload_n 3, 1) := dk_29 (dk_at dksX10_free_0 7 rfl rfl)
theorem dX10_free_8 : decode cX10_free 8 = .ok (.if_icmp .gt 56, 3) := dk_163 0 56 (dk_at dksX10_free_0 8 rfl rfl)
theorem dX10_free_11 : decode cX10_free 11 = .ok (.iconst 1, 1) := dk_4 (dk_at dksX10_free_0 11 rfl rfl)
theorem dX10_free_12 : decode cX10_free 12 = .ok (.istore 5, 2) := dk_54 5 (dk_at dksX10_free_0 12 rfl rfl)
theorem dX10_free_14 : decode cX10_free 14 = .ok (.iconst 0, 1) := dk_3 (dk_at dksX10_free_0 14 rfl rfl)
theorem dX10_free_15 : decode cX10_free 15 = .ok (.istore 6, 2) := dk_54 6 (dk_at dksX10_free_0 15 rfl rfl)
theorem dX10_free_17 : decode cX10_free 17 = .ok (.iload 6, 2) := dk_21 6 (dk_at dksX10_free_0 17 rfl rfl)
theorem dX10_free_19 : decode cX10_free 19 = .ok (.iload_n 2, 1) := dk_28 (dk_at dksX10_free_0 19 rfl rfl)
theorem dX10_free_20 : decode cX10_free 20 = .ok (.if_icmp .ge 30, 3) := dk_162 0 30 (dk_at dksX10_free_0 20 rfl rfl)
theorem dX10_free_23 : decode cX10_free 23 = .ok (.iload 5, 2) := dk_21 5 (dk_at dksX10_free_1 0 rfl rfl)
theorem dX10_free_25 : decode cX10_free 25 = .ok (.aload_n 0, 1) := dk_42 (dk_at dksX10_free_1 2 rfl rfl)
theorem dX10_free_26 : decode cX10_free 26 = .ok (.iload 4, 2) := dk_21 4 (dk_at dksX10_free_1 3 rfl rfl)
theorem dX10_free_28 : decode cX10_free 28 = .ok (.iload 6, 2) := dk_21 6 (dk_at dksX10_free_1 5 rfl rfl)
theorem dX10_free_30 : decode cX10_free 30 = .ok (.iadd, 1) := dk_96 (dk_at dksX10_free_1 7 rfl rfl)
theorem dX10_free_31 : decode cX10_free 31 = .ok (.iaload, 1) := dk_46 (dk_at dksX10_free_1 8 rfl rfl)
theorem dX10_free_32 : decode cX10_free 32 = .ok (.iconst (-1), 1) := dk_2 (dk_at dksX10_free_1 9 rfl rfl)
theorem dX10_free_33 : decode cX10_free 33 = .ok (.if_icmp .ne 7, 3) := dk_160 0 7 (dk_at dksX10_free_1 10 rfl rfl)
theorem dX10_free_36 : decode cX10_free 36 = .ok (.iconst 1, 1) := dk_4 (dk_at dksX10_free_1 13 rfl rfl)
theorem dX10_free_37 : decode cX10_free 37 = .ok (.goto 4, 3) := dk_167 0 4 (dk_at dksX10_free_1 14 rfl rfl)
theorem dX10_free_40 : decode cX10_free 40 = .ok (.iconst 0, 1) := dk_3 (dk_at dksX10_free_1 17 rfl rfl)
theorem dX10_free_41 : decode cX10_free 41 = .ok (.iand, 1) := dk_126 (dk_at dksX10_free_1 18 rfl rfl)
theorem dX10_free_42 : decode cX10_free 42 = .ok (.istore 5, 2) := dk_54 5 (dk_at dksX10_free_1 19 rfl rfl)
theorem dX10_free_44 : decode cX10_free 44 = .ok (.iinc 6 1, 3) := dk_132 6 1 (dk_at dksX10_free_1 21 rfl rfl)
theorem dX10_free_47 : decode cX10_free 47 = .ok (.goto (-30), 3) := dk_167 255 226 (dk_at dksX10_free_2 0 rfl rfl)
theorem dX10_free_50 : decode cX10_free 50 = .ok (.iload 5, 2) := dk_21 5 (dk_at dksX10_free_2 3 rfl rfl)
theorem dX10_free_52 : decode cX10_free 52 = .ok (.ifCond .eq 6, 3) := dk_153 0 6 (dk_at dksX10_free_2 5 rfl rfl)
theorem dX10_free_55 : decode cX10_free 55 = .ok (.iload 4, 2) := dk_21 4 (dk_at dksX10_free_2 8 rfl rfl)
theorem dX10_free_57 : decode cX10_free 57 = .ok (.ireturn, 1) := dk_172 (dk_at dksX10_free_2 10 rfl rfl)
theorem dX10_free_58 : decode cX10_free 58 = .ok (.iinc 4 1, 3) := dk_132 4 1 (dk_at dksX10_free_2 11 rfl rfl)
theorem dX10_free_61 : decode cX10_free 61 = .ok (.goto (-58), 3) := dk_167 255 198 (dk_at dksX10_free_2 14 rfl rfl)
theorem dX10_free_64 : decode cX10_free 64 = .ok (.iconst (-1), 1) := dk_2 (dk_at dksX10_free_2 17 rfl rfl)
theorem dX10_free_65 : decode cX10_free 65 = .ok (.ireturn, 1) := dk_172 (dk_at dksX10_free_2 18 rfl rfl)
theorem q177 : (Jvm.Cond.initialized "NoteImporter$View") ∈ lw_all := lw_g (lw_at lw_m1 58 rfl) rfl
theorem q590 : (Jvm.Cond.fieldLinkNest "NoteImporter$View" (40 : Nat) "NoteImporter$Library" "editions" "Ljava/util/ArrayList;" "NoteImporter") ∈ lw_tbl := lw_at lw_m2 231 rfl
theorem q594 : (Jvm.Cond.fieldLinkNest "NoteImporter$View" (62 : Nat) "NoteImporter$Library" "notes" "Ljava/util/ArrayList;" "NoteImporter") ∈ lw_tbl := lw_at lw_m2 235 rfl
theorem q607 : (Jvm.Cond.fieldLinkNest "NoteImporter$View" (102 : Nat) "NoteImporter$Library" "threshold" "I" "NoteImporter") ∈ lw_tbl := lw_at lw_m3 8 rfl
theorem q664 : (Jvm.Cond.instantiable "NoteImporter$View" (5 : Nat)) ∈ lw_all := lw_g (lw_at lw_m3 65 rfl) rfl
theorem q666 : (Jvm.Cond.instanceMethod ({ cls := "NoteImporter$View", name := "<init>", desc := "(LNoteImporter$Library;)V" } : Jvm.MethodName)) ∈ lw_all := lw_g (lw_at lw_m3 67 rfl) rfl
theorem q667 : (Jvm.Cond.code ({ cls := "NoteImporter$View", name := "<init>", desc := "(LNoteImporter$Library;)V" } : Jvm.MethodName) prog_13_method_1_code (3 : Nat) (Option.none : Option Jvm.ClassFile.FieldType)) ∈ lw_all := lw_g (lw_at lw_m3 68 rfl) rfl
theorem q668 : (Jvm.Cond.methodLink "NoteImporter$View" (3 : Nat) ({ cls := "java/lang/Object", name := "<init>", desc := "()V" } : Jvm.MethodName)) ∈ lw_all := lw_g (lw_at lw_m3 69 rfl) rfl
theorem q669 : (Jvm.Cond.classLink "NoteImporter$View" (9 : Nat) "NoteImporter$Alignment") ∈ lw_all := lw_g (lw_at lw_m3 70 rfl) rfl
theorem q671 : (Jvm.Cond.classLink "NoteImporter$View" (17 : Nat) "NoteImporter$Anchor") ∈ lw_all := lw_g (lw_at lw_m3 72 rfl) rfl
theorem q673 : (Jvm.Cond.classLink "NoteImporter$View" (27 : Nat) "java/util/ArrayList") ∈ lw_all := lw_g (lw_at lw_m3 74 rfl) rfl
theorem q674 : (Jvm.Cond.methodLink "NoteImporter$View" (29 : Nat) ({ cls := "java/util/ArrayList", name := "<init>", desc := "(I)V" } : Jvm.MethodName)) ∈ lw_all := lw_g (lw_at lw_m3 75 rfl) rfl
theorem q675 : (Jvm.Cond.methodLink "NoteImporter$View" (45 : Nat) ({ cls := "java/util/ArrayList", name := "size", desc := "()I" } : Jvm.MethodName)) ∈ lw_all := lw_g (lw_at lw_m3 76 rfl) rfl
theorem q680 : (Jvm.Cond.methodLink "NoteImporter$View" (49 : Nat) ({ cls := "java/util/ArrayList", name := "get", desc := "(I)Ljava/lang/Object;" } : Jvm.MethodName)) ∈ lw_all := lw_g (lw_at lw_m3 81 rfl) rfl
theorem q694 : (Jvm.Cond.classLink "NoteImporter$View" (53 : Nat) "NoteImporter$Edition") ∈ lw_all := lw_g (lw_at lw_m3 95 rfl) rfl
theorem q695 : (Jvm.Cond.methodLink "NoteImporter$View" (55 : Nat) ({ cls := "NoteImporter$Library", name := "aim", desc := "()LNoteImporter$Edition;" } : Jvm.MethodName)) ∈ lw_all := lw_g (lw_at lw_m3 96 rfl) rfl
theorem q701 : (Jvm.Cond.methodLink "NoteImporter$View" (59 : Nat) ({ cls := "NoteImporter$Alignment", name := "<init>", desc := "(LNoteImporter$Edition;LNoteImporter$Edition;)V" } : Jvm.MethodName)) ∈ lw_all := lw_g (lw_at lw_m3 102 rfl) rfl
theorem q733 : (Jvm.Cond.classLink "NoteImporter$View" (65 : Nat) "NoteImporter$Note") ∈ lw_all := lw_g (lw_at lw_m3 134 rfl) rfl
theorem q734 : (Jvm.Cond.methodLink "NoteImporter$View" (71 : Nat) ({ cls := "NoteImporter$Anchor", name := "<init>", desc := "(LNoteImporter$Note;LNoteImporter$Alignment;)V" } : Jvm.MethodName)) ∈ lw_all := lw_g (lw_at lw_m3 135 rfl) rfl
theorem q758 : (Jvm.Cond.fieldLinkNest "NoteImporter$View" (109 : Nat) "NoteImporter$Anchor" "state" "I" "NoteImporter") ∈ lw_tbl := lw_at lw_m3 159 rfl
theorem q777 : (Jvm.Cond.methodLink "NoteImporter$View" (74 : Nat) ({ cls := "NoteImporter$View", name := "spread", desc := "(I)V" } : Jvm.MethodName)) ∈ lw_all := lw_g (lw_at lw_m3 178 rfl) rfl
theorem q778 : (Jvm.Cond.privateMethod ({ cls := "NoteImporter$View", name := "spread", desc := "(I)V" } : Jvm.MethodName)) ∈ lw_tbl := lw_at lw_m3 179 rfl
theorem q779 : (Jvm.Cond.instanceMethod ({ cls := "NoteImporter$View", name := "spread", desc := "(I)V" } : Jvm.MethodName)) ∈ lw_all := lw_g (lw_at lw_m3 180 rfl) rfl
theorem q780 : (Jvm.Cond.code ({ cls := "NoteImporter$View", name := "spread", desc := "(I)V" } : Jvm.MethodName) prog_13_method_4_code (6 : Nat) (Option.none : Option Jvm.ClassFile.FieldType)) ∈ lw_all := lw_g (lw_at lw_m3 181 rfl) rfl
theorem q781 : (Jvm.Cond.classLink "NoteImporter$View" (133 : Nat) "NoteImporter$Group") ∈ lw_all := lw_g (lw_at lw_m3 182 rfl) rfl
theorem q783 : (Jvm.Cond.methodLink "NoteImporter$View" (135 : Nat) ({ cls := "NoteImporter$Group", name := "<init>", desc := "(II)V" } : Jvm.MethodName)) ∈ lw_all := lw_g (lw_at lw_m3 184 rfl) rfl
theorem q791 : (Jvm.Cond.fieldLinkNest "NoteImporter$View" (209 : Nat) "NoteImporter$Group" "number" "I" "NoteImporter") ∈ lw_tbl := lw_at lw_m3 192 rfl
theorem q799 : (Jvm.Cond.fieldLinkNest "NoteImporter$View" (184 : Nat) "NoteImporter$Group" "first" "I" "NoteImporter") ∈ lw_tbl := lw_at lw_m3 200 rfl
theorem q804 : (Jvm.Cond.fieldLinkNest "NoteImporter$View" (154 : Nat) "NoteImporter$Group" "text" "I" "NoteImporter") ∈ lw_tbl := lw_at lw_m3 205 rfl
theorem q819 : (Jvm.Cond.methodLink "NoteImporter$View" (138 : Nat) ({ cls := "java/util/ArrayList", name := "add", desc := "(Ljava/lang/Object;)Z" } : Jvm.MethodName)) ∈ lw_all := lw_g (lw_at lw_m3 220 rfl) rfl
theorem q856 : (Jvm.Cond.selects "NoteImporter$View" ({ cls := "java/lang/Object", name := "getClass", desc := "()Ljava/lang/Class;" } : Jvm.MethodName) ({ cls := "java/lang/Object", name := "getClass", desc := "()Ljava/lang/Class;" } : Jvm.MethodName)) ∈ lw_all := lw_g (lw_at lw_m4 17 rfl) rfl
theorem q892 : (Jvm.Cond.methodLink "NoteImporter$View" (141 : Nat) ({ cls := "java/lang/Integer", name := "valueOf", desc := "(I)Ljava/lang/Integer;" } : Jvm.MethodName)) ∈ lw_all := lw_g (lw_at lw_m4 53 rfl) rfl
theorem q912 : (Jvm.Cond.classLink "NoteImporter$View" (142 : Nat) "java/lang/Integer") ∈ lw_all := lw_g (lw_at lw_m4 73 rfl) rfl
theorem q913 : (Jvm.Cond.methodLink "NoteImporter$View" (147 : Nat) ({ cls := "java/lang/Integer", name := "intValue", desc := "()I" } : Jvm.MethodName)) ∈ lw_all := lw_g (lw_at lw_m4 74 rfl) rfl
theorem q917 : (Jvm.Cond.methodLink "NoteImporter$View" (150 : Nat) ({ cls := "NoteImporter$View", name := "areAlike", desc := "(II)Z" } : Jvm.MethodName)) ∈ lw_all := lw_g (lw_at lw_m4 78 rfl) rfl
theorem q918 : (Jvm.Cond.instanceMethod ({ cls := "NoteImporter$View", name := "areAlike", desc := "(II)Z" } : Jvm.MethodName)) ∈ lw_all := lw_g (lw_at lw_m4 79 rfl) rfl
theorem q919 : (Jvm.Cond.selects "NoteImporter$View" ({ cls := "NoteImporter$View", name := "areAlike", desc := "(II)Z" } : Jvm.MethodName) ({ cls := "NoteImporter$View", name := "areAlike", desc := "(II)Z" } : Jvm.MethodName)) ∈ lw_all := lw_g (lw_at lw_m4 80 rfl) rfl
theorem q920 : (Jvm.Cond.code ({ cls := "NoteImporter$View", name := "areAlike", desc := "(II)Z" } : Jvm.MethodName) prog_13_method_3_code (7 : Nat) (Option.some Jvm.ClassFile.FieldType.boolean)) ∈ lw_all := lw_g (lw_at lw_m4 81 rfl) rfl
theorem q921 : (Jvm.Cond.methodLink "NoteImporter$View" (112 : Nat) ({ cls := "NoteImporter$Anchor", name := "shared", desc := "(LNoteImporter$Anchor;)I" } : Jvm.MethodName)) ∈ lw_all := lw_g (lw_at lw_m4 82 rfl) rfl
theorem q926 : (Jvm.Cond.methodLink "NoteImporter$View" (116 : Nat) ({ cls := "NoteImporter$Anchor", name := "length", desc := "()I" } : Jvm.MethodName)) ∈ lw_all := lw_g (lw_at lw_m4 87 rfl) rfl
theorem q930 : (Jvm.Cond.methodLink "NoteImporter$View" (119 : Nat) ({ cls := "java/lang/Math", name := "min", desc := "(II)I" } : Jvm.MethodName)) ∈ lw_all := lw_g (lw_at lw_m4 91 rfl) rfl
theorem q931 : (Jvm.Cond.methodLink "NoteImporter$View" (129 : Nat) ({ cls := "NoteImporter$View", name := "areTextsAlike", desc := "(Ljava/util/HashSet;Ljava/util/HashSet;)Z" } : Jvm.MethodName)) ∈ lw_all := lw_g (lw_at lw_m4 92 rfl) rfl
theorem q932 : (Jvm.Cond.privateMethod ({ cls := "NoteImporter$View", name := "areTextsAlike", desc := "(Ljava/util/HashSet;Ljava/util/HashSet;)Z" } : Jvm.MethodName)) ∈ lw_tbl := lw_at lw_m4 93 rfl
theorem q933 : (Jvm.Cond.instanceMethod ({ cls := "NoteImporter$View", name := "areTextsAlike", desc := "(Ljava/util/HashSet;Ljava/util/HashSet;)Z" } : Jvm.MethodName)) ∈ lw_all := lw_g (lw_at lw_m4 94 rfl) rfl
theorem q934 : (Jvm.Cond.code ({ cls := "NoteImporter$View", name := "areTextsAlike", desc := "(Ljava/util/HashSet;Ljava/util/HashSet;)Z" } : Jvm.MethodName) prog_13_method_2_code (6 : Nat) (Option.some Jvm.ClassFile.FieldType.boolean)) ∈ lw_all := lw_g (lw_at lw_m4 95 rfl) rfl
theorem q935 : (Jvm.Cond.methodLink "NoteImporter$View" (80 : Nat) ({ cls := "java/util/HashSet", name := "iterator", desc := "()Ljava/util/Iterator;" } : Jvm.MethodName)) ∈ lw_all := lw_g (lw_at lw_m4 96 rfl) rfl
theorem q1070 : (Jvm.Cond.interfaceEntry "NoteImporter$View" (86 : Nat)) ∈ lw_tbl := lw_at lw_m4 231 rfl
theorem q1071 : (Jvm.Cond.methodLink "NoteImporter$View" (86 : Nat) ({ cls := "java/util/Iterator", name := "hasNext", desc := "()Z" } : Jvm.MethodName)) ∈ lw_all := lw_g (lw_at lw_m4 232 rfl) rfl
theorem q1102 : (Jvm.Cond.interfaceEntry "NoteImporter$View" (92 : Nat)) ∈ lw_tbl := lw_at lw_m5 23 rfl
theorem q1103 : (Jvm.Cond.methodLink "NoteImporter$View" (92 : Nat) ({ cls := "java/util/Iterator", name := "next", desc := "()Ljava/lang/Object;" } : Jvm.MethodName)) ∈ lw_all := lw_g (lw_at lw_m5 24 rfl) rfl
theorem q1159 : (Jvm.Cond.classLink "NoteImporter$View" (96 : Nat) "java/lang/String") ∈ lw_all := lw_g (lw_at lw_m5 80 rfl) rfl
theorem q1160 : (Jvm.Cond.methodLink "NoteImporter$View" (98 : Nat) ({ cls := "java/util/HashSet", name := "contains", desc := "(Ljava/lang/Object;)Z" } : Jvm.MethodName)) ∈ lw_all := lw_g (lw_at lw_m5 81 rfl) rfl
theorem q1196 : (Jvm.Cond.selects "NoteImporter$View" ({ cls := "java/lang/Object", name := "hashCode", desc := "()I" } : Jvm.MethodName) ({ cls := "java/lang/Object", name := "hashCode", desc := "()I" } : Jvm.MethodName)) ∈ lw_all := lw_g (lw_at lw_m5 117 rfl) rfl
theorem q1298 : (Jvm.Cond.selects "NoteImporter$View" ({ cls := "java/lang/Object", name := "equals", desc := "(Ljava/lang/Object;)Z" } : Jvm.MethodName) ({ cls := "java/lang/Object", name := "equals", desc := "(Ljava/lang/Object;)Z" } : Jvm.MethodName)) ∈ lw_all := lw_g (lw_at lw_m5 219 rfl) rfl
theorem q1572 : (Jvm.Cond.methodLink "NoteImporter$View" (105 : Nat) ({ cls := "java/util/HashSet", name := "size", desc := "()I" } : Jvm.MethodName)) ∈ lw_all := lw_g (lw_at lw_m7 13 rfl) rfl
theorem q1580 : (Jvm.Cond.methodLink "NoteImporter$View" (77 : Nat) ({ cls := "NoteImporter$View", name := "gather", desc := "()V" } : Jvm.MethodName)) ∈ lw_all := lw_g (lw_at lw_m7 21 rfl) rfl
theorem q1581 : (Jvm.Cond.privateMethod ({ cls := "NoteImporter$View", name := "gather", desc := "()V" } : Jvm.MethodName)) ∈ lw_tbl := lw_at lw_m7 22 rfl
theorem q1582 : (Jvm.Cond.instanceMethod ({ cls := "NoteImporter$View", name := "gather", desc := "()V" } : Jvm.MethodName)) ∈ lw_all := lw_g (lw_at lw_m7 23 rfl) rfl
theorem q1583 : (Jvm.Cond.code ({ cls := "NoteImporter$View", name := "gather", desc := "()V" } : Jvm.MethodName) prog_13_method_5_code (3 : Nat) (Option.none : Option Jvm.ClassFile.FieldType)) ∈ lw_all := lw_g (lw_at lw_m7 24 rfl) rfl
theorem q1584 : (Jvm.Cond.methodLink "NoteImporter$View" (160 : Nat) ({ cls := "NoteImporter$Group", name := "add", desc := "(ILNoteImporter$Note;LNoteImporter$Anchor;I)V" } : Jvm.MethodName)) ∈ lw_all := lw_g (lw_at lw_m7 25 rfl) rfl
theorem q1593 : (Jvm.Cond.fieldLink "NoteImporter$View" (36 : Nat) "NoteImporter$View" "library" "LNoteImporter$Library;") ∈ lw_all := lw_g (lw_at lw_m7 34 rfl) rfl
theorem q1594 : (Jvm.Cond.fieldLink "NoteImporter$View" (11 : Nat) "NoteImporter$View" "alignments" "[LNoteImporter$Alignment;") ∈ lw_all := lw_g (lw_at lw_m7 35 rfl) rfl
theorem q1596 : (Jvm.Cond.fieldLink "NoteImporter$View" (19 : Nat) "NoteImporter$View" "anchors" "[LNoteImporter$Anchor;") ∈ lw_all := lw_g (lw_at lw_m7 37 rfl) rfl
theorem q1598 : (Jvm.Cond.fieldLink "NoteImporter$View" (23 : Nat) "NoteImporter$View" "groupOf" "[I") ∈ lw_all := lw_g (lw_at lw_m7 39 rfl) rfl
theorem q1600 : (Jvm.Cond.fieldLink "NoteImporter$View" (32 : Nat) "NoteImporter$View" "groups" "Ljava/util/ArrayList;") ∈ lw_all := lw_g (lw_at lw_m7 41 rfl) rfl
theorem q1602 : (Jvm.Cond.laysFinal "NoteImporter$View" "NoteImporter$View" "library" "LNoteImporter$Library;") ∈ lw_all := lw_g (lw_at lw_m7 43 rfl) rfl
theorem q1603 : (Jvm.Cond.soleField "NoteImporter$View" "library") ∈ lw_all := lw_g (lw_at lw_m7 44 rfl) rfl
theorem q1604 : (Jvm.Cond.laysFinal "NoteImporter$View" "NoteImporter$View" "alignments" "[LNoteImporter$Alignment;") ∈ lw_all := lw_g (lw_at lw_m7 45 rfl) rfl
theorem q1605 : (Jvm.Cond.soleField "NoteImporter$View" "alignments") ∈ lw_all := lw_g (lw_at lw_m7 46 rfl) rfl
theorem q1606 : (Jvm.Cond.laysFinal "NoteImporter$View" "NoteImporter$View" "anchors" "[LNoteImporter$Anchor;") ∈ lw_all := lw_g (lw_at lw_m7 47 rfl) rfl
theorem q1607 : (Jvm.Cond.soleField "NoteImporter$View" "anchors") ∈ lw_all := lw_g (lw_at lw_m7 48 rfl) rfl
theorem q1608 : (Jvm.Cond.laysFinal "NoteImporter$View" "NoteImporter$View" "groupOf" "[I") ∈ lw_all := lw_g (lw_at lw_m7 49 rfl) rfl
theorem q1609 : (Jvm.Cond.soleField "NoteImporter$View" "groupOf") ∈ lw_all := lw_g (lw_at lw_m7 50 rfl) rfl
theorem q1610 : (Jvm.Cond.laysFinal "NoteImporter$View" "NoteImporter$View" "groups" "Ljava/util/ArrayList;") ∈ lw_all := lw_g (lw_at lw_m7 51 rfl) rfl
theorem q1611 : (Jvm.Cond.soleField "NoteImporter$View" "groups") ∈ lw_all := lw_g (lw_at lw_m7 52 rfl) rfl
theorem q1612 : (Jvm.Cond.superclass "NoteImporter$View" "java/lang/Object") ∈ lw_all := lw_g (lw_at lw_m7 53 rfl) rfl
theorem q1670 : (Jvm.Cond.instanceMethod ({ cls := "NoteImporter$View", name := "heat", desc := "(I)I" } : Jvm.MethodName)) ∈ lw_all := lw_g (lw_at lw_m7 111 rfl) rfl
theorem q1671 : (Jvm.Cond.selects "NoteImporter$View" ({ cls := "NoteImporter$View", name := "heat", desc := "(I)I" } : Jvm.MethodName) ({ cls := "NoteImporter$View", name := "heat", desc := "(I)I" } : Jvm.MethodName)) ∈ lw_all := lw_g (lw_at lw_m7 112 rfl) rfl
theorem q1672 : (Jvm.Cond.code ({ cls := "NoteImporter$View", name := "heat", desc := "(I)I" } : Jvm.MethodName) prog_13_method_6_code (5 : Nat) (Option.some Jvm.ClassFile.FieldType.int)) ∈ lw_all := lw_g (lw_at lw_m7 113 rfl) rfl
theorem q1673 : (Jvm.Cond.methodLink "NoteImporter$View" (163 : Nat) ({ cls := "NoteImporter$Anchor", name := "has", desc := "(I)Z" } : Jvm.MethodName)) ∈ lw_all := lw_g (lw_at lw_m7 114 rfl) rfl
theorem q1685 : (Jvm.Cond.instanceMethod ({ cls := "NoteImporter$View", name := "margin", desc := "(I)[I" } : Jvm.MethodName)) ∈ lw_all := lw_g (lw_at lw_m7 126 rfl) rfl
theorem q1686 : (Jvm.Cond.selects "NoteImporter$View" ({ cls := "NoteImporter$View", name := "margin", desc := "(I)[I" } : Jvm.MethodName) ({ cls := "NoteImporter$View", name := "margin", desc := "(I)[I" } : Jvm.MethodName)) ∈ lw_all := lw_g (lw_at lw_m7 127 rfl) rfl
theorem q1687 : (Jvm.Cond.code ({ cls := "NoteImporter$View", name := "margin", desc := "(I)[I" } : Jvm.MethodName) prog_13_method_8_code (8 : Nat) (Option.some (Jvm.ClassFile.FieldType.array Jvm.ClassFile.FieldType.int))) ∈ lw_all := lw_g (lw_at lw_m7 128 rfl) rfl
theorem q1688 : (Jvm.Cond.classLink "NoteImporter$View" (173 : Nat) "java/util/PriorityQueue") ∈ lw_all := lw_g (lw_at lw_m7 129 rfl) rfl
theorem q1690 : (Jvm.Cond.classLink "NoteImporter$View" (175 : Nat) "NoteImporter$ByLines") ∈ lw_all := lw_g (lw_at lw_m7 131 rfl) rfl
theorem q1692 : (Jvm.Cond.methodLink "NoteImporter$View" (177 : Nat) ({ cls := "NoteImporter$ByLines", name := "<init>", desc := "(LNoteImporter$Edition;)V" } : Jvm.MethodName)) ∈ lw_all := lw_g (lw_at lw_m7 133 rfl) rfl
theorem q1700 : (Jvm.Cond.methodLink "NoteImporter$View" (180 : Nat) ({ cls := "java/util/PriorityQueue", name := "<init>", desc := "(Ljava/util/Comparator;)V" } : Jvm.MethodName)) ∈ lw_all := lw_g (lw_at lw_m7 141 rfl) rfl
theorem q1738 : (Jvm.Cond.methodLink "NoteImporter$View" (183 : Nat) ({ cls := "java/util/ArrayList", name := "iterator", desc := "()Ljava/util/Iterator;" } : Jvm.MethodName)) ∈ lw_all := lw_g (lw_at lw_m7 179 rfl) rfl
theorem q1739 : (Jvm.Cond.methodLink "NoteImporter$View" (187 : Nat) ({ cls := "NoteImporter$Edition", name := "page", desc := "(I)I" } : Jvm.MethodName)) ∈ lw_all := lw_g (lw_at lw_m7 180 rfl) rfl
theorem q1740 : (Jvm.Cond.methodLink "NoteImporter$View" (191 : Nat) ({ cls := "java/util/PriorityQueue", name := "add", desc := "(Ljava/lang/Object;)Z" } : Jvm.MethodName)) ∈ lw_all := lw_g (lw_at lw_m7 181 rfl) rfl
theorem q1782 : (Jvm.Cond.methodLink "NoteImporter$View" (192 : Nat) ({ cls := "java/util/PriorityQueue", name := "isEmpty", desc := "()Z" } : Jvm.MethodName)) ∈ lw_all := lw_g (lw_at lw_m7 223 rfl) rfl
theorem q1814 : (Jvm.Cond.methodLink "NoteImporter$View" (195 : Nat) ({ cls := "java/util/PriorityQueue", name := "poll", desc := "()Ljava/lang/Object;" } : Jvm.MethodName)) ∈ lw_all := lw_g (lw_at lw_m8 15 rfl) rfl
theorem q1824 : (Jvm.Cond.methodLink "NoteImporter$View" (201 : Nat) ({ cls := "NoteImporter$View", name := "rowsOf", desc := "(LNoteImporter$Group;)I" } : Jvm.MethodName)) ∈ lw_all := lw_g (lw_at lw_m8 25 rfl) rfl
theorem q1825 : (Jvm.Cond.privateMethod ({ cls := "NoteImporter$View", name := "rowsOf", desc := "(LNoteImporter$Group;)I" } : Jvm.MethodName)) ∈ lw_tbl := lw_at lw_m8 26 rfl
theorem q1826 : (Jvm.Cond.instanceMethod ({ cls := "NoteImporter$View", name := "rowsOf", desc := "(LNoteImporter$Group;)I" } : Jvm.MethodName)) ∈ lw_all := lw_g (lw_at lw_m8 27 rfl) rfl
theorem q1827 : (Jvm.Cond.code ({ cls := "NoteImporter$View", name := "rowsOf", desc := "(LNoteImporter$Group;)I" } : Jvm.MethodName) prog_13_method_7_code (2 : Nat) (Option.some Jvm.ClassFile.FieldType.int)) ∈ lw_all := lw_g (lw_at lw_m8 28 rfl) rfl
theorem q1828 : (Jvm.Cond.methodLink "NoteImporter$View" (205 : Nat) ({ cls := "NoteImporter$View", name := "free", desc := "([IIII)I" } : Jvm.MethodName)) ∈ lw_all := lw_g (lw_at lw_m8 29 rfl) rfl
theorem q1829 : (Jvm.Cond.static ({ cls := "NoteImporter$View", name := "free", desc := "([IIII)I" } : Jvm.MethodName)) ∈ lw_all := lw_g (lw_at lw_m8 30 rfl) rfl
theorem q1830 : (Jvm.Cond.code ({ cls := "NoteImporter$View", name := "free", desc := "([IIII)I" } : Jvm.MethodName) prog_13_method_9_code (7 : Nat) (Option.some Jvm.ClassFile.FieldType.int)) ∈ lw_all := lw_g (lw_at lw_m8 31 rfl) rfl
theorem q1869 : (Jvm.Cond.fieldLinkNest "NoteImporter$View" (170 : Nat) "NoteImporter$Edition" "lines" "I" "NoteImporter") ∈ lw_tbl := lw_at lw_m8 70 rfl
theorem q1873 : (Jvm.Cond.fieldLinkNest "NoteImporter$View" (198 : Nat) "NoteImporter$Edition" "lineOf" "[I" "NoteImporter") ∈ lw_tbl := lw_at lw_m8 74 rfl
theorem q2295 : (Jvm.Cond.fieldLinkNest "NoteImporter$View" (167 : Nat) "NoteImporter$Note" "reader" "I" "NoteImporter") ∈ lw_tbl := lw_at lw_m10 16 rfl
theorem q2298 : (Jvm.Cond.fieldLinkNest "NoteImporter$View" (106 : Nat) "NoteImporter$Note" "kind" "I" "NoteImporter") ∈ lw_tbl := lw_at lw_m10 19 rfl
theorem q2301 : (Jvm.Cond.fieldLinkNest "NoteImporter$View" (67 : Nat) "NoteImporter$Note" "edition" "I" "NoteImporter") ∈ lw_tbl := lw_at lw_m10 22 rfl
theorem q2305 : (Jvm.Cond.fieldLinkNest "NoteImporter$View" (157 : Nat) "NoteImporter$Note" "said" "Ljava/util/ArrayList;" "NoteImporter") ∈ lw_tbl := lw_at lw_m10 26 rfl
theorem q2308 : (Jvm.Cond.fieldLinkNest "NoteImporter$View" (125 : Nat) "NoteImporter$Note" "different" "Ljava/util/HashSet;" "NoteImporter") ∈ lw_tbl := lw_at lw_m10 29 rfl
theorem q3817 : (Jvm.Cond.castable "NoteImporter$View" "java/lang/Object") ∈ lw_tbl := lw_at lw_m16 98 rfl
theorem in_X10 : ∀ w ∈ wsX100, w ∈ lw_all := lw_in wsX100 [1602, 1604, 1606, 1608, 1610] (by decide +kernel) (by decide +kernel)

/-! NoteImporter$Alignment -/
set_option maxRecDepth 100000
def RX11 : String := "NoteImporter$Alignment"
def TX11 : u_T := fun k => match k with
  | _ => ("NoteImporter$Alignment", "partners", "[I", true)
def tyX11 : Nat → FieldType := fun k => match k with
  | _ => .array .int
abbrev wsX110 : List Cond := u_ws RX11 TX11 1
theorem nmX11 : ∀ a, a < 1 → ∀ b, b < 1 → a ≠ b → (TX11 a).2.1 ≠ (TX11 b).2.1 := by decide +kernel
theorem tyX11_ok : ∀ k, k < 1 → parseFieldDescriptor (TX11 k).2.2.1 = some (tyX11 k) := by decide +kernel
abbrev cX11_init : ByteArray := prog_2_method_1_code
def yX11_init : MethodName := ⟨RX11, "<init>", "(LNoteImporter$Edition;LNoteImporter$Edition;)V"⟩
def dkwX11_init_8 : List UInt8 := [44, 25, 4, 182, 0, 43, 177]
abbrev dktX11_init_8 : List UInt8 := dkwX11_init_8 ++ []
def dkwX11_init_7 : List UInt8 := [42, 180, 0, 15, 190, 162, 0, 17, 42, 180, 0, 15, 21, 5, 2, 79, 132, 5, 1, 167, 255, 235, 42, 43]
abbrev dktX11_init_7 : List UInt8 := dkwX11_init_7 ++ dktX11_init_8
def dkwX11_init_6 : List UInt8 := [4, 96, 46, 184, 0, 37, 79, 132, 6, 255, 167, 255, 161, 132, 5, 255, 167, 255, 142, 3, 54, 5, 21, 5]
abbrev dktX11_init_6 : List UInt8 := dkwX11_init_6 ++ dktX11_init_7
def dkwX11_init_5 : List UInt8 := [167, 0, 30, 25, 4, 29, 21, 5, 4, 96, 104, 21, 6, 96, 46, 25, 4, 29, 21, 5, 104, 21, 6, 96]
abbrev dktX11_init_5 : List UInt8 := dkwX11_init_5 ++ dktX11_init_6
def dkwX11_init_4 : List UInt8 := [21, 6, 96, 21, 7, 153, 0, 22, 4, 25, 4, 29, 21, 5, 4, 96, 104, 21, 6, 96, 4, 96, 46, 96]
abbrev dktX11_init_4 : List UInt8 := dkwX11_init_4 ++ dktX11_init_5
def dkwX11_init_3 : List UInt8 := [192, 0, 31, 44, 180, 0, 21, 21, 6, 182, 0, 25, 182, 0, 33, 54, 7, 25, 4, 29, 21, 5, 104]
abbrev dktX11_init_3 : List UInt8 := dkwX11_init_3 ++ dktX11_init_4
def dkwX11_init_2 : List UInt8 := [44, 182, 0, 9, 4, 100, 54, 6, 21, 6, 155, 0, 96, 43, 180, 0, 21, 21, 5, 182, 0, 25]
abbrev dktX11_init_2 : List UInt8 := dkwX11_init_2 ++ dktX11_init_3
def dkwX11_init_1 : List UInt8 := [182, 0, 9, 4, 96, 29, 104, 188, 10, 58, 4, 43, 182, 0, 9, 4, 100, 54, 5, 21, 5, 155, 0, 115]
abbrev dktX11_init_1 : List UInt8 := dkwX11_init_1 ++ dktX11_init_2
def dkwX11_init_0 : List UInt8 := [42, 183, 0, 3, 42, 43, 182, 0, 9, 188, 10, 181, 0, 15, 44, 182, 0, 9, 4, 96, 62, 43]
abbrev dktX11_init_0 : List UInt8 := dkwX11_init_0 ++ dktX11_init_1
theorem dksX11_init_0 : cX11_init.data.toList.drop 0 = dktX11_init_0 := by decide +kernel
theorem dksX11_init_1 : cX11_init.data.toList.drop 22 = dktX11_init_1 := dk_seg dksX11_init_0 22 rfl rfl
theorem dksX11_init_2 : cX11_init.data.toList.drop 46 = dktX11_init_2 := dk_seg dksX11_init_1 24 rfl rfl
theorem dksX11_init_3 : cX11_init.data.toList.drop 68 = dktX11_init_3 := dk_seg dksX11_init_2 22 rfl rfl
theorem dksX11_init_4 : cX11_init.data.toList.drop 91 = dktX11_init_4 := dk_seg dksX11_init_3 23 rfl rfl
theorem dksX11_init_5 : cX11_init.data.toList.drop 115 = dktX11_init_5 := dk_seg dksX11_init_4 24 rfl rfl
theorem dksX11_init_6 : cX11_init.data.toList.drop 139 = dktX11_init_6 := dk_seg dksX11_init_5 24 rfl rfl
theorem dksX11_init_7 : cX11_init.data.toList.drop 163 = dktX11_init_7 := dk_seg dksX11_init_6 24 rfl rfl
theorem dksX11_init_8 : cX11_init.data.toList.drop 187 = dktX11_init_8 := dk_seg dksX11_init_7 24 rfl rfl
theorem dX11_init_0 : decode cX11_init 0 = .ok (.aload_n 0, 1) := dk_42 (dk_at dksX11_init_0 0 rfl rfl)
theorem dX11_init_1 : decode cX11_init 1 = .ok (.invokespecial 3, 3) := dk_183 0 3 (dk_at dksX11_init_0 1 rfl rfl)
theorem dX11_init_4 : decode cX11_init 4 = .ok (.aload_n 0, 1) := dk_42 (dk_at dksX11_init_0 4 rfl rfl)
theorem dX11_init_5 : decode cX11_init 5 = .ok (.aload_n 1, 1) := dk_43 (dk_at dksX11_init_0 5 rfl rfl)
theorem dX11_init_6 : decode cX11_init 6 = .ok (.invokevirtual 9, 3) := dk_182 0 9 (dk_at dksX11_init_0 6 rfl rfl)
theorem dX11_init_9 : decode cX11_init 9 = .ok (.newarray .int, 2) := dk_188_10 (dk_at dksX11_init_0 9 rfl rfl)
theorem dX11_init_11 : decode cX11_init 11 = .ok (.putfield 15, 3) := dk_181 0 15 (dk_at dksX11_init_0 11 rfl rfl)
theorem dX11_init_14 : decode cX11_init 14 = .ok (.aload_n 2, 1) := dk_44 (dk_at dksX11_init_0 14 rfl rfl)
theorem dX11_init_15 : decode cX11_init 15 = .ok (.invokevirtual 9, 3) := dk_182 0 9 (dk_at dksX11_init_0 15 rfl rfl)
theorem dX11_init_18 : decode cX11_init 18 = .ok (.iconst 1, 1) := dk_4 (dk_at dksX11_init_0 18 rfl rfl)
theorem dX11_init_19 : decode cX11_init 19 = .ok (.iadd, 1) := dk_96 (dk_at dksX11_init_0 19 rfl rfl)
theorem dX11_init_20 : decode cX11_init 20 = .ok (.istore_n 3, 1) := dk_62 (dk_at dksX11_init_0 20 rfl rfl)
theorem dX11_init_21 : decode cX11_init 21 = .ok (.aload_n 1, 1) := dk_43 (dk_at dksX11_init_0 21 rfl rfl)
theorem dX11_init_22 : decode cX11_init 22 = .ok (.invokevirtual 9, 3) := dk_182 0 9 (dk_at dksX11_init_1 0 rfl rfl)
theorem dX11_init_25 : decode cX11_init 25 = .ok (.iconst 1, 1) := dk_4 (dk_at dksX11_init_1 3 rfl rfl)
theorem dX11_init_26 : decode cX11_init 26 = .ok (.iadd, 1) := dk_96 (dk_at dksX11_init_1 4 rfl rfl)
theorem dX11_init_27 : decode cX11_init 27 = .ok (.iload_n 3, 1) := dk_29 (dk_at dksX11_init_1 5 rfl rfl)
theorem dX11_init_28 : decode cX11_init 28 = .ok (.imul, 1) := dk_104 (dk_at dksX11_init_1 6 rfl rfl)
theorem dX11_init_29 : decode cX11_init 29 = .ok (.newarray .int, 2) := dk_188_10 (dk_at dksX11_init_1 7 rfl rfl)
theorem dX11_init_31 : decode cX11_init 31 = .ok (.astore 4, 2) := dk_58 4 (dk_at dksX11_init_1 9 rfl rfl)
theorem dX11_init_33 : decode cX11_init 33 = .ok (.aload_n 1, 1) := dk_43 (dk_at dksX11_init_1 11 rfl rfl)
theorem dX11_init_34 : decode cX11_init 34 = .ok (.invokevirtual 9, 3) := dk_182 0 9 (dk_at dksX11_init_1 12 rfl rfl)
theorem dX11_init_37 : decode cX11_init 37 = .ok (.iconst 1, 1) := dk_4 (dk_at dksX11_init_1 15 rfl rfl)
theorem dX11_init_38 : decode cX11_init 38 = .ok (.isub, 1) := dk_100 (dk_at dksX11_init_1 16 rfl rfl)
theorem dX11_init_39 : decode cX11_init 39 = .ok (.istore 5, 2) := dk_54 5 (dk_at dksX11_init_1 17 rfl rfl)
theorem dX11_init_41 : decode cX11_init 41 = .ok (.iload 5, 2) := dk_21 5 (dk_at dksX11_init_1 19 rfl rfl)
theorem dX11_init_43 : decode cX11_init 43 = .ok (.ifCond .lt 115, 3) := dk_155 0 115 (dk_at dksX11_init_1 21 rfl rfl)
theorem dX11_init_46 : decode cX11_init 46 = .ok (.aload_n 2, 1) := dk_44 (dk_at dksX11_init_2 0 rfl rfl)
theorem dX11_init_47 : decode cX11_init 47 = .ok (.invokevirtual 9, 3) := dk_182 0 9 (dk_at dksX11_init_2 1 rfl rfl)
theorem dX11_init_50 : decode cX11_init 50 = .ok (.iconst 1, 1) := dk_4 (dk_at dksX11_init_2 4 rfl rfl)
theorem dX11_init_51 : decode cX11_init 51 = .ok (.isub, 1) := dk_100 (dk_at dksX11_init_2 5 rfl rfl)
theorem dX11_init_52 : decode cX11_init 52 = .ok (.istore 6, 2) := dk_54 6 (dk_at dksX11_init_2 6 rfl rfl)
theorem dX11_init_54 : decode cX11_init 54 = .ok (.iload 6, 2) := dk_21 6 (dk_at dksX11_init_2 8 rfl rfl)
theorem dX11_init_56 : decode cX11_init 56 = .ok (.ifCond .lt 96, 3) := dk_155 0 96 (dk_at dksX11_init_2 10 rfl rfl)
theorem dX11_init_59 : decode cX11_init 59 = .ok (.aload_n 1, 1) := dk_43 (dk_at dksX11_init_2 13 rfl rfl)
theorem dX11_init_60 : decode cX11_init 60 = .ok (.getfield 21, 3) := dk_180 0 21 (dk_at dksX11_init_2 14 rfl rfl)
theorem dX11_init_63 : decode cX11_init 63 = .ok (.iload 5, 2) := dk_21 5 (dk_at dksX11_init_2 17 rfl rfl)
theorem dX11_init_65 : decode cX11_init 65 = .ok (.invokevirtual 25, 3) := dk_182 0 25 (dk_at dksX11_init_2 19 rfl rfl)
theorem dX11_init_68 : decode cX11_init 68 = .ok (.checkcast 31, 3) := dk_192 0 31 (dk_at dksX11_init_3 0 rfl rfl)
theorem dX11_init_71 : decode cX11_init 71 = .ok (.aload_n 2, 1) := dk_44 (dk_at dksX11_init_3 3 rfl rfl)
theorem dX11_init_72 : decode cX11_init 72 = .ok (.getfield 21, 3) := dk_180 0 21 (dk_at dksX11_init_3 4 rfl rfl)
theorem dX11_init_75 : decode cX11_init 75 = .ok (.iload 6, 2) := dk_21 6 (dk_at dksX11_init_3 7 rfl rfl)
theorem dX11_init_77 : decode cX11_init 77 = .ok (.invokevirtual 25, 3) := dk_182 0 25 (dk_at dksX11_init_3 9 rfl rfl)
theorem dX11_init_80 : decode cX11_init 80 = .ok (.invokevirtual 33, 3) := dk_182 0 33 (dk_at dksX11_init_3 12 rfl rfl)
theorem dX11_init_83 : decode cX11_init 83 = .ok (.istore 7, 2) := dk_54 7 (dk_at dksX11_init_3 15 rfl rfl)
theorem dX11_init_85 : decode cX11_init 85 = .ok (.aload 4, 2) := dk_25 4 (dk_at dksX11_init_3 17 rfl rfl)
theorem dX11_init_87 : decode cX11_init 87 = .ok (.iload_n 3, 1) := dk_29 (dk_at dksX11_init_3 19 rfl rfl)
theorem dX11_init_88 : decode cX11_init 88 = .ok (.iload 5, 2) := dk_21 5 (dk_at dksX11_init_3 20 rfl rfl)
theorem dX11_init_90 : decode cX11_init 90 = .ok (.imul, 1) := dk_104 (dk_at dksX11_init_3 22 rfl rfl)
theorem dX11_init_91 : decode cX11_init 91 = .ok (.iload 6, 2) := dk_21 6 (dk_at dksX11_init_4 0 rfl rfl)
theorem dX11_init_93 : decode cX11_init 93 = .ok (.iadd, 1) := dk_96 (dk_at dksX11_init_4 2 rfl rfl)
theorem dX11_init_94 : decode cX11_init 94 = .ok (.iload 7, 2) := dk_21 7 (dk_at dksX11_init_4 3 rfl rfl)
theorem dX11_init_96 : decode cX11_init 96 = .ok (.ifCond .eq 22, 3) := dk_153 0 22 (dk_at dksX11_init_4 5 rfl rfl)
theorem dX11_init_99 : decode cX11_init 99 = .ok (.iconst 1, 1) := dk_4 (dk_at dksX11_init_4 8 rfl rfl)
theorem dX11_init_100 : decode cX11_init 100 = .ok (.aload 4, 2) := dk_25 4 (dk_at dksX11_init_4 9 rfl rfl)
theorem dX11_init_102 : decode cX11_init 102 = .ok (.iload_n 3, 1) := dk_29 (dk_at dksX11_init_4 11 rfl rfl)
theorem dX11_init_103 : decode cX11_init 103 = .ok (.iload 5, 2) := dk_21 5 (dk_at dksX11_init_4 12 rfl rfl)
theorem dX11_init_105 : decode cX11_init 105 = .ok (.iconst 1, 1) := dk_4 (dk_at dksX11_init_4 14 rfl rfl)
theorem dX11_init_106 : decode cX11_init 106 = .ok (.iadd, 1) := dk_96 (dk_at dksX11_init_4 15 rfl rfl)
theorem dX11_init_107 : decode cX11_init 107 = .ok (.imul, 1) := dk_104 (dk_at dksX11_init_4 16 rfl rfl)
theorem dX11_init_108 : decode cX11_init 108 = .ok (.iload 6, 2) := dk_21 6 (dk_at dksX11_init_4 17 rfl rfl)
theorem dX11_init_110 : decode cX11_init 110 = .ok (.iadd, 1) := dk_96 (dk_at dksX11_init_4 19 rfl rfl)
theorem dX11_init_111 : decode cX11_init 111 = .ok (.iconst 1, 1) := dk_4 (dk_at dksX11_init_4 20 rfl rfl)
theorem dX11_init_112 : decode cX11_init 112 = .ok (.iadd, 1) := dk_96 (dk_at dksX11_init_4 21 rfl rfl)
theorem dX11_init_113 : decode cX11_init 113 = .ok (.iaload, 1) := dk_46 (dk_at dksX11_init_4 22 rfl rfl)
theorem dX11_init_114 : decode cX11_init 114 = .ok (.iadd, 1) := dk_96 (dk_at dksX11_init_4 23 rfl rfl)
theorem dX11_init_115 : decode cX11_init 115 = .ok (.goto 30, 3) := dk_167 0 30 (dk_at dksX11_init_5 0 rfl rfl)
theorem dX11_init_118 : decode cX11_init 118 = .ok (.aload 4, 2) := dk_25 4 (dk_at dksX11_init_5 3 rfl rfl)
theorem dX11_init_120 : decode cX11_init 120 = .ok (.iload_n 3, 1) := dk_29 (dk_at dksX11_init_5 5 rfl rfl)
theorem dX11_init_121 : decode cX11_init 121 = .ok (.iload 5, 2) := dk_21 5 (dk_at dksX11_init_5 6 rfl rfl)
theorem dX11_init_123 : decode cX11_init 123 = .ok (.iconst 1, 1) := dk_4 (dk_at dksX11_init_5 8 rfl rfl)
theorem dX11_init_124 : decode cX11_init 124 = .ok (.iadd, 1) := dk_96 (dk_at dksX11_init_5 9 rfl rfl)
theorem dX11_init_125 : decode cX11_init 125 = .ok (.imul, 1) := dk_104 (dk_at dksX11_init_5 10 rfl rfl)
theorem dX11_init_126 : decode cX11_init 126 = .ok (.iload 6, 2) := dk_21 6 (dk_at dksX11_init_5 11 rfl rfl)
theorem dX11_init_128 : decode cX11_init 128 = .ok (.iadd, 1) := dk_96 (dk_at dksX11_init_5 13 rfl rfl)
theorem dX11_init_129 : decode cX11_init 129 = .ok (.iaload, 1) := dk_46 (dk_at dksX11_init_5 14 rfl rfl)
theorem dX11_init_130 : decode cX11_init 130 = .ok (.aload 4, 2) := dk_25 4 (dk_at dksX11_init_5 15 rfl rfl)
theorem dX11_init_132 : decode cX11_init 132 = .ok (.iload_n 3, 1) := dk_29 (dk_at dksX11_init_5 17 rfl rfl)
theorem dX11_init_133 : decode cX11_init 133 = .ok (.iload 5, 2) := dk_21 5 (dk_at dksX11_init_5 18 rfl rfl)
theorem dX11_init_135 : decode cX11_init 135 = .ok (.imul, 1) := dk_104 (dk_at dksX11_init_5 20 rfl rfl)
theorem dX11_init_136 : decode cX11_init 136 = .ok (.iload 6, 2) := dk_21 6 (dk_at dksX11_init_5 21 rfl rfl)
theorem dX11_init_138 : decode cX11_init 138 = .ok (.iadd, 1) := dk_96 (dk_at dksX11_init_5 23 rfl rfl)
theorem dX11_init_139 : decode cX11_init 139 = .ok (.iconst 1, 1) := dk_4 (dk_at dksX11_init_6 0 rfl rfl)
theorem dX11_init_140 : decode cX11_init 140 = .ok (.iadd, 1) := dk_96 (dk_at dksX11_init_6 1 rfl rfl)
theorem dX11_init_141 : decode cX11_init 141 = .ok (.iaload, 1) := dk_46 (dk_at dksX11_init_6 2 rfl rfl)
theorem dX11_init_142 : decode cX11_init 142 = .ok (.invokestatic 37, 3) := dk_184 0 37 (dk_at dksX11_init_6 3 rfl rfl)
theorem dX11_init_145 : decode cX11_init 145 = .ok (.iastore, 1) := dk_79 (dk_at dksX11_init_6 6 rfl rfl)
theorem dX11_init_146 : decode cX11_init 146 = .ok (.iinc 6 (-1), 3) := dk_132 6 255 (dk_at dksX11_init_6 7 rfl rfl)
theorem dX11_init_149 : decode cX11_init 149 = .ok (.goto (-95), 3) := dk_167 255 161 (dk_at dksX11_init_6 10 rfl rfl)
theorem dX11_init_152 : decode cX11_init 152 = .ok (.iinc 5 (-1), 3) := dk_132 5 255 (dk_at dksX11_init_6 13 rfl rfl)
theorem dX11_init_155 : decode cX11_init 155 = .ok (.goto (-114), 3) := dk_167 255 142 (dk_at dksX11_init_6 16 rfl rfl)
theorem dX11_init_158 : decode cX11_init 158 = .ok (.iconst 0, 1) := dk_3 (dk_at dksX11_init_6 19 rfl rfl)
theorem dX11_init_159 : decode cX11_init 159 = .ok (.istore 5, 2) := dk_54 5 (dk_at dksX11_init_6 20 rfl rfl)
theorem dX11_init_161 : decode cX11_init 161 = .ok (.iload 5, 2) := dk_21 5 (dk_at dksX11_init_6 22 rfl rfl)
theorem dX11_init_163 : decode cX11_init 163 = .ok (.aload_n 0, 1) := dk_42 (dk_at dksX11_init_7 0 rfl rfl)
theorem dX11_init_164 : decode cX11_init 164 = .ok (.getfield 15, 3) := dk_180 0 15 (dk_at dksX11_init_7 1 rfl rfl)
theorem dX11_init_167 : decode cX11_init 167 = .ok (.arraylength, 1) := dk_190 (dk_at dksX11_init_7 4 rfl rfl)
theorem dX11_init_168 : decode cX11_init 168 = .ok (.if_icmp .ge 17, 3) := dk_162 0 17 (dk_at dksX11_init_7 5 rfl rfl)
theorem dX11_init_171 : decode cX11_init 171 = .ok (.aload_n 0, 1) := dk_42 (dk_at dksX11_init_7 8 rfl rfl)
theorem dX11_init_172 : decode cX11_init 172 = .ok (.getfield 15, 3) := dk_180 0 15 (dk_at dksX11_init_7 9 rfl rfl)
theorem dX11_init_175 : decode cX11_init 175 = .ok (.iload 5, 2) := dk_21 5 (dk_at dksX11_init_7 12 rfl rfl)
theorem dX11_init_177 : decode cX11_init 177 = .ok (.iconst (-1), 1) := dk_2 (dk_at dksX11_init_7 14 rfl rfl)
theorem dX11_init_178 : decode cX11_init 178 = .ok (.iastore, 1) := dk_79 (dk_at dksX11_init_7 15 rfl rfl)
theorem dX11_init_179 : decode cX11_init 179 = .ok (.iinc 5 1, 3) := dk_132 5 1 (dk_at dksX11_init_7 16 rfl rfl)
theorem dX11_init_182 : decode cX11_init 182 = .ok (.goto (-21), 3) := dk_167 255 235 (dk_at dksX11_init_7 19 rfl rfl)
theorem dX11_init_185 : decode cX11_init 185 = .ok (.aload_n 0, 1) := dk_42 (dk_at dksX11_init_7 22 rfl rfl)
theorem dX11_init_186 : decode cX11_init 186 = .ok (.aload_n 1, 1) := dk_43 (dk_at dksX11_init_7 23 rfl rfl)
theorem dX11_init_187 : decode cX11_init 187 = .ok (.aload_n 2, 1) := dk_44 (dk_at dksX11_init_8 0 rfl rfl)
theorem dX11_init_188 : decode cX11_init 188 = .ok (.aload 4, 2) := dk_25 4 (dk_at dksX11_init_8 1 rfl rfl)
theorem dX11_init_190 : decode cX11_init 190 = .ok (.invokevirtual 43, 3) := dk_182 0 43 (dk_at dksX11_init_8 3 rfl rfl)
theorem dX11_init_193 : decode cX11_init 193 = .ok (.return_, 1) := dk_177 (dk_at dksX11_init_8 6 rfl rfl)
abbrev cX11_walk : ByteArray := prog_2_method_2_code
def yX11_walk : MethodName := ⟨RX11, "walk", "(LNoteImporter$Edition;LNoteImporter$Edition;[I)V"⟩
def dkwX11_walk_5 : List UInt8 := [177]
abbrev dktX11_walk_5 : List UInt8 := dkwX11_walk_5 ++ []
def dkwX11_walk_4 : List UInt8 := [21, 5, 104, 21, 6, 96, 4, 96, 46, 161, 0, 9, 132, 5, 1, 167, 255, 163, 132, 6, 1, 167, 255, 157]
abbrev dktX11_walk_4 : List UInt8 := dkwX11_walk_4 ++ dktX11_walk_5
def dkwX11_walk_3 : List UInt8 := [132, 5, 1, 132, 6, 1, 167, 255, 196, 45, 21, 4, 21, 5, 4, 96, 104, 21, 6, 96, 46, 45, 21, 4]
abbrev dktX11_walk_3 : List UInt8 := dkwX11_walk_3 ++ dktX11_walk_4
def dkwX11_walk_2 : List UInt8 := [180, 0, 21, 21, 6, 182, 0, 25, 182, 0, 33, 153, 0, 21, 42, 180, 0, 15, 21, 5, 21, 6, 79]
abbrev dktX11_walk_2 : List UInt8 := dkwX11_walk_2 ++ dktX11_walk_3
def dkwX11_walk_1 : List UInt8 := [21, 6, 44, 182, 0, 9, 162, 0, 87, 43, 180, 0, 21, 21, 5, 182, 0, 25, 192, 0, 31, 44]
abbrev dktX11_walk_1 : List UInt8 := dkwX11_walk_1 ++ dktX11_walk_2
def dkwX11_walk_0 : List UInt8 := [44, 182, 0, 9, 4, 96, 54, 4, 3, 54, 5, 3, 54, 6, 21, 5, 43, 182, 0, 9, 162, 0, 96]
abbrev dktX11_walk_0 : List UInt8 := dkwX11_walk_0 ++ dktX11_walk_1
theorem dksX11_walk_0 : cX11_walk.data.toList.drop 0 = dktX11_walk_0 := by decide +kernel
theorem dksX11_walk_1 : cX11_walk.data.toList.drop 23 = dktX11_walk_1 := dk_seg dksX11_walk_0 23 rfl rfl
theorem dksX11_walk_2 : cX11_walk.data.toList.drop 45 = dktX11_walk_2 := dk_seg dksX11_walk_1 22 rfl rfl
theorem dksX11_walk_3 : cX11_walk.data.toList.drop 68 = dktX11_walk_3 := dk_seg dksX11_walk_2 23 rfl rfl
theorem dksX11_walk_4 : cX11_walk.data.toList.drop 92 = dktX11_walk_4 := dk_seg dksX11_walk_3 24 rfl rfl
theorem dksX11_walk_5 : cX11_walk.data.toList.drop 116 = dktX11_walk_5 := dk_seg dksX11_walk_4 24 rfl rfl
theorem dX11_walk_0 : decode cX11_walk 0 = .ok (.aload_n 2, 1) := dk_44 (dk_at dksX11_walk_0 0 rfl rfl)
theorem dX11_walk_1 : decode cX11_walk 1 = .ok (.invokevirtual 9, 3) := dk_182 0 9 (dk_at dksX11_walk_0 1 rfl rfl)
theorem dX11_walk_4 : decode cX11_walk 4 = .ok (.iconst 1, 1) := dk_4 (dk_at dksX11_walk_0 4 rfl rfl)
theorem dX11_walk_5 : decode cX11_walk 5 = .ok (.iadd, 1) := dk_96 (dk_at dksX11_walk_0 5 rfl rfl)
theorem dX11_walk_6 : decode cX11_walk 6 = .ok (.istore 4, 2) := dk_54 4 (dk_at dksX11_walk_0 6 rfl rfl)
theorem dX11_walk_8 : decode cX11_walk 8 = .ok (.iconst 0, 1) := dk_3 (dk_at dksX11_walk_0 8 rfl rfl)
theorem dX11_walk_9 : decode cX11_walk 9 = .ok (.istore 5, 2) := dk_54 5 (dk_at dksX11_walk_0 9 rfl rfl)
theorem dX11_walk_11 : decode cX11_walk 11 = .ok (.iconst 0, 1) := dk_3 (dk_at dksX11_walk_0 11 rfl rfl)
theorem dX11_walk_12 : decode cX11_walk 12 = .ok (.istore 6, 2) := dk_54 6 (dk_at dksX11_walk_0 12 rfl rfl)
theorem dX11_walk_14 : decode cX11_walk 14 = .ok (.iload 5, 2) := dk_21 5 (dk_at dksX11_walk_0 14 rfl rfl)
theorem dX11_walk_16 : decode cX11_walk 16 = .ok (.aload_n 1, 1) := dk_43 (dk_at dksX11_walk_0 16 rfl rfl)
theorem dX11_walk_17 : decode cX11_walk 17 = .ok (.invokevirtual 9, 3) := dk_182 0 9 (dk_at dksX11_walk_0 17 rfl rfl)
theorem dX11_walk_20 : decode cX11_walk 20 = .ok (.if_icmp .ge 96, 3) := dk_162 0 96 (dk_at dksX11_walk_0 20 rfl rfl)
theorem dX11_walk_23 : decode cX11_walk 23 = .ok (.iload 6, 2) := dk_21 6 (dk_at dksX11_walk_1 0 rfl rfl)
theorem dX11_walk_25 : decode cX11_walk 25 = .ok (.aload_n 2, 1) := dk_44 (dk_at dksX11_walk_1 2 rfl rfl)
theorem dX11_walk_26 : decode cX11_walk 26 = .ok (.invokevirtual 9, 3) := dk_182 0 9 (dk_at dksX11_walk_1 3 rfl rfl)
theorem dX11_walk_29 : decode cX11_walk 29 = .ok (.if_icmp .ge 87, 3) := dk_162 0 87 (dk_at dksX11_walk_1 6 rfl rfl)
theorem dX11_walk_32 : decode cX11_walk 32 = .ok (.aload_n 1, 1) := dk_43 (dk_at dksX11_walk_1 9 rfl rfl)
theorem dX11_walk_33 : decode cX11_walk 33 = .ok (.getfield 21, 3) := dk_180 0 21 (dk_at dksX11_walk_1 10 rfl rfl)
theorem dX11_walk_36 : decode cX11_walk 36 = .ok (.iload 5, 2) := dk_21 5 (dk_at dksX11_walk_1 13 rfl rfl)
theorem dX11_walk_38 : decode cX11_walk 38 = .ok (.invokevirtual 25, 3) := dk_182 0 25 (dk_at dksX11_walk_1 15 rfl rfl)
theorem dX11_walk_41 : decode cX11_walk 41 = .ok (.checkcast 31, 3) := dk_192 0 31 (dk_at dksX11_walk_1 18 rfl rfl)
theorem dX11_walk_44 : decode cX11_walk 44 = .ok (.aload_n 2, 1) := dk_44 (dk_at dksX11_walk_1 21 rfl rfl)
theorem dX11_walk_45 : decode cX11_walk 45 = .ok (.getfield 21, 3) := dk_180 0 21 (dk_at dksX11_walk_2 0 rfl rfl)
theorem dX11_walk_48 : decode cX11_walk 48 = .ok (.iload 6, 2) := dk_21 6 (dk_at dksX11_walk_2 3 rfl rfl)
theorem dX11_walk_50 : decode cX11_walk 50 = .ok (.invokevirtual 25, 3) := dk_182 0 25 (dk_at dksX11_walk_2 5 rfl rfl)
theorem dX11_walk_53 : decode cX11_walk 53 = .ok (.invokevirtual 33, 3) := dk_182 0 33 (dk_at dksX11_walk_2 8 rfl rfl)
theorem dX11_walk_56 : decode cX11_walk 56 = .ok (.ifCond .eq 21, 3) := dk_153 0 21 (dk_at dksX11_walk_2 11 rfl rfl)
theorem dX11_walk_59 : decode cX11_walk 59 = .ok (.aload_n 0, 1) := dk_42 (dk_at dksX11_walk_2 14 rfl rfl)
theorem dX11_walk_60 : decode cX11_walk 60 = .ok (.getfield 15, 3) := dk_180 0 15 (dk_at dksX11_walk_2 15 rfl rfl)
theorem dX11_walk_63 : decode cX11_walk 63 = .ok (.iload 5, 2) := dk_21 5 (dk_at dksX11_walk_2 18 rfl rfl)
theorem dX11_walk_65 : decode cX11_walk 65 = .ok (.iload 6, 2) := dk_21 6 (dk_at dksX11_walk_2 20 rfl rfl)
theorem dX11_walk_67 : decode cX11_walk 67 = .ok (.iastore, 1) := dk_79 (dk_at dksX11_walk_2 22 rfl rfl)
theorem dX11_walk_68 : decode cX11_walk 68 = .ok (.iinc 5 1, 3) := dk_132 5 1 (dk_at dksX11_walk_3 0 rfl rfl)
theorem dX11_walk_71 : decode cX11_walk 71 = .ok (.iinc 6 1, 3) := dk_132 6 1 (dk_at dksX11_walk_3 3 rfl rfl)
theorem dX11_walk_74 : decode cX11_walk 74 = .ok (.goto (-60), 3) := dk_167 255 196 (dk_at dksX11_walk_3 6 rfl rfl)
theorem dX11_walk_77 : decode cX11_walk 77 = .ok (.aload_n 3, 1) := dk_45 (dk_at dksX11_walk_3 9 rfl rfl)
theorem dX11_walk_78 : decode cX11_walk 78 = .ok (.iload 4, 2) := dk_21 4 (dk_at dksX11_walk_3 10 rfl rfl)
theorem dX11_walk_80 : decode cX11_walk 80 = .ok (.iload 5, 2) := dk_21 5 (dk_at dksX11_walk_3 12 rfl rfl)
theorem dX11_walk_82 : decode cX11_walk 82 = .ok (.iconst 1, 1) := dk_4 (dk_at dksX11_walk_3 14 rfl rfl)
theorem dX11_walk_83 : decode cX11_walk 83 = .ok (.iadd, 1) := dk_96 (dk_at dksX11_walk_3 15 rfl rfl)
theorem dX11_walk_84 : decode cX11_walk 84 = .ok (.imul, 1) := dk_104 (dk_at dksX11_walk_3 16 rfl rfl)
theorem dX11_walk_85 : decode cX11_walk 85 = .ok (.iload 6, 2) := dk_21 6 (dk_at dksX11_walk_3 17 rfl rfl)
theorem dX11_walk_87 : decode cX11_walk 87 = .ok (.iadd, 1) := dk_96 (dk_at dksX11_walk_3 19 rfl rfl)
theorem dX11_walk_88 : decode cX11_walk 88 = .ok (.iaload, 1) := dk_46 (dk_at dksX11_walk_3 20 rfl rfl)
theorem dX11_walk_89 : decode cX11_walk 89 = .ok (.aload_n 3, 1) := dk_45 (dk_at dksX11_walk_3 21 rfl rfl)
theorem dX11_walk_90 : decode cX11_walk 90 = .ok (.iload 4, 2) := dk_21 4 (dk_at dksX11_walk_3 22 rfl rfl)
theorem dX11_walk_92 : decode cX11_walk 92 = .ok (.iload 5, 2) := dk_21 5 (dk_at dksX11_walk_4 0 rfl rfl)
theorem dX11_walk_94 : decode cX11_walk 94 = .ok (.imul, 1) := dk_104 (dk_at dksX11_walk_4 2 rfl rfl)
theorem dX11_walk_95 : decode cX11_walk 95 = .ok (.iload 6, 2) := dk_21 6 (dk_at dksX11_walk_4 3 rfl rfl)
theorem dX11_walk_97 : decode cX11_walk 97 = .ok (.iadd, 1) := dk_96 (dk_at dksX11_walk_4 5 rfl rfl)
theorem dX11_walk_98 : decode cX11_walk 98 = .ok (.iconst 1, 1) := dk_4 (dk_at dksX11_walk_4 6 rfl rfl)
theorem dX11_walk_99 : decode cX11_walk 99 = .ok (.iadd, 1) := dk_96 (dk_at dksX11_walk_4 7 rfl rfl)
theorem dX11_walk_100 : decode cX11_walk 100 = .ok (.iaload, 1) := dk_46 (dk_at dksX11_walk_4 8 rfl rfl)
theorem dX11_walk_101 : decode cX11_walk 101 = .ok (.if_icmp .lt 9, 3) := dk_161 0 9 (dk_at dksX11_walk_4 9 rfl rfl)
theorem dX11_walk_104 : decode cX11_walk 104 = .ok (.iinc 5 1, 3) := dk_132 5 1 (dk_at dksX11_walk_4 12 rfl rfl)
theorem dX11_walk_107 : decode cX11_walk 107 = .ok (.goto (-93), 3) := dk_167 255 163 (dk_at dksX11_walk_4 15 rfl rfl)
theorem dX11_walk_110 : decode cX11_walk 110 = .ok (.iinc 6 1, 3) := dk_132 6 1 (dk_at dksX11_walk_4 18 rfl rfl)
theorem dX11_walk_113 : decode cX11_walk 113 = .ok (.goto (-99), 3) := dk_167 255 157 (dk_at dksX11_walk_4 21 rfl rfl)
theorem dX11_walk_116 : decode cX11_walk 116 = .ok (.return_, 1) := dk_177 (dk_at dksX11_walk_5 0 rfl rfl)
abbrev cX11_count : ByteArray := prog_2_method_4_code
def yX11_count : MethodName := ⟨RX11, "count", "(II)I"⟩
def dkwX11_count_1 : List UInt8 := [167, 0, 4, 4, 96, 62, 132, 4, 1, 167, 255, 228, 29, 172]
abbrev dktX11_count_1 : List UInt8 := dkwX11_count_1 ++ []
def dkwX11_count_0 : List UInt8 := [3, 62, 27, 54, 4, 21, 4, 28, 163, 0, 28, 29, 42, 180, 0, 15, 21, 4, 46, 2, 160, 0, 7, 3]
abbrev dktX11_count_0 : List UInt8 := dkwX11_count_0 ++ dktX11_count_1
theorem dksX11_count_0 : cX11_count.data.toList.drop 0 = dktX11_count_0 := by decide +kernel
theorem dksX11_count_1 : cX11_count.data.toList.drop 24 = dktX11_count_1 := dk_seg dksX11_count_0 24 rfl rfl
theorem dX11_count_0 : decode cX11_count 0 = .ok (.iconst 0, 1) := dk_3 (dk_at dksX11_count_0 0 rfl rfl)
theorem dX11_count_1 : decode cX11_count 1 = .ok (.istore_n 3, 1) := dk_62 (dk_at dksX11_count_0 1 rfl rfl)
theorem dX11_count_2 : decode cX11_count 2 = .ok (.iload_n 1, 1) := dk_27 (dk_at dksX11_count_0 2 rfl rfl)
theorem dX11_count_3 : decode cX11_count 3 = .ok (.istore 4, 2) := dk_54 4 (dk_at dksX11_count_0 3 rfl rfl)
theorem dX11_count_5 : decode cX11_count 5 = .ok (.iload 4, 2) := dk_21 4 (dk_at dksX11_count_0 5 rfl rfl)
theorem dX11_count_7 : decode cX11_count 7 = .ok (.iload_n 2, 1) := dk_28 (dk_at dksX11_count_0 7 rfl rfl)
theorem dX11_count_8 : decode cX11_count 8 = .ok (.if_icmp .gt 28, 3) := dk_163 0 28 (dk_at dksX11_count_0 8 rfl rfl)
theorem dX11_count_11 : decode cX11_count 11 = .ok (.iload_n 3, 1) := dk_29 (dk_at dksX11_count_0 11 rfl rfl)
theorem dX11_count_12 : decode cX11_count 12 = .ok (.aload_n 0, 1) := dk_42 (dk_at dksX11_count_0 12 rfl rfl)
theorem dX11_count_13 : decode cX11_count 13 = .ok (.getfield 15, 3) := dk_180 0 15 (dk_at dksX11_count_0 13 rfl rfl)
theorem dX11_count_16 : decode cX11_count 16 = .ok (.iload 4, 2) := dk_21 4 (dk_at dksX11_count_0 16 rfl rfl)
theorem dX11_count_18 : decode cX11_count 18 = .ok (.iaload, 1) := dk_46 (dk_at dksX11_count_0 18 rfl rfl)
theorem dX11_count_19 : decode cX11_count 19 = .ok (.iconst (-1), 1) := dk_2 (dk_at dksX11_count_0 19 rfl rfl)
theorem dX11_count_20 : decode cX11_count 20 = .ok (.if_icmp .ne 7, 3) := dk_160 0 7 (dk_at dksX11_count_0 20 rfl rfl)
theorem dX11_count_23 : decode cX11_count 23 = .ok (.iconst 0, 1) := dk_3 (dk_at dksX11_count_0 23 rfl rfl)
theorem dX11_count_24 : decode cX11_count 24 = .ok (.goto 4, 3) := dk_167 0 4 (dk_at dksX11_count_1 0 rfl rfl)
theorem dX11_count_27 : decode cX11_count 27 = .ok (.iconst 1, 1) := dk_4 (dk_at dksX11_count_1 3 rfl rfl)
theorem dX11_count_28 : decode cX11_count 28 = .ok (.iadd, 1) := dk_96 (dk_at dksX11_count_1 4 rfl rfl)
theorem dX11_count_29 : decode cX11_count 29 = .ok (.istore_n 3, 1) := dk_62 (dk_at dksX11_count_1 5 rfl rfl)
theorem dX11_count_30 : decode cX11_count 30 = .ok (.iinc 4 1, 3) := dk_132 4 1 (dk_at dksX11_count_1 6 rfl rfl)
theorem dX11_count_33 : decode cX11_count 33 = .ok (.goto (-28), 3) := dk_167 255 228 (dk_at dksX11_count_1 9 rfl rfl)
theorem dX11_count_36 : decode cX11_count 36 = .ok (.iload_n 3, 1) := dk_29 (dk_at dksX11_count_1 12 rfl rfl)
theorem dX11_count_37 : decode cX11_count 37 = .ok (.ireturn, 1) := dk_172 (dk_at dksX11_count_1 13 rfl rfl)
abbrev cX11_count_2 : ByteArray := prog_2_method_3_code
def yX11_count_2 : MethodName := ⟨RX11, "count", "()I"⟩
def dkwX11_count_2_0 : List UInt8 := [42, 3, 42, 180, 0, 15, 190, 4, 100, 182, 0, 47, 172]
abbrev dktX11_count_2_0 : List UInt8 := dkwX11_count_2_0 ++ []
theorem dksX11_count_2_0 : cX11_count_2.data.toList.drop 0 = dktX11_count_2_0 := by decide +kernel
theorem dX11_count_2_0 : decode cX11_count_2 0 = .ok (.aload_n 0, 1) := dk_42 (dk_at dksX11_count_2_0 0 rfl rfl)
theorem dX11_count_2_1 : decode cX11_count_2 1 = .ok (.iconst 0, 1) := dk_3 (dk_at dksX11_count_2_0 1 rfl rfl)
theorem dX11_count_2_2 : decode cX11_count_2 2 = .ok (.aload_n 0, 1) := dk_42 (dk_at dksX11_count_2_0 2 rfl rfl)
theorem dX11_count_2_3 : decode cX11_count_2 3 = .ok (.getfield 15, 3) := dk_180 0 15 (dk_at dksX11_count_2_0 3 rfl rfl)
theorem dX11_count_2_6 : decode cX11_count_2 6 = .ok (.arraylength, 1) := dk_190 (dk_at dksX11_count_2_0 6 rfl rfl)
theorem dX11_count_2_7 : decode cX11_count_2 7 = .ok (.iconst 1, 1) := dk_4 (dk_at dksX11_count_2_0 7 rfl rfl)
theorem dX11_count_2_8 : decode cX11_count_2 8 = .ok (.isub, 1) := dk_100 (dk_at dksX11_count_2_0 8 rfl rfl)
theorem dX11_count_2_9 : decode cX11_count_2 9 = .ok (.invokevirtual 47, 3) := dk_182 0 47 (dk_at dksX11_count_2_0 9 rfl rfl)
theorem dX11_count_2_12 : decode cX11_count_2 12 = .ok (.ireturn, 1) := dk_172 (dk_at dksX11_count_2_0 12 rfl rfl)
theorem q178 : (Jvm.Cond.initialized "NoteImporter$Alignment") ∈ lw_all := lw_g (lw_at lw_m1 59 rfl) rfl
theorem q679 : (Jvm.Cond.instantiable "NoteImporter$Alignment" (1 : Nat)) ∈ lw_all := lw_g (lw_at lw_m3 80 rfl) rfl
theorem q702 : (Jvm.Cond.instanceMethod ({ cls := "NoteImporter$Alignment", name := "<init>", desc := "(LNoteImporter$Edition;LNoteImporter$Edition;)V" } : Jvm.MethodName)) ∈ lw_all := lw_g (lw_at lw_m3 103 rfl) rfl
theorem q703 : (Jvm.Cond.code ({ cls := "NoteImporter$Alignment", name := "<init>", desc := "(LNoteImporter$Edition;LNoteImporter$Edition;)V" } : Jvm.MethodName) prog_2_method_1_code (8 : Nat) (Option.none : Option Jvm.ClassFile.FieldType)) ∈ lw_all := lw_g (lw_at lw_m3 104 rfl) rfl
theorem q704 : (Jvm.Cond.methodLink "NoteImporter$Alignment" (3 : Nat) ({ cls := "java/lang/Object", name := "<init>", desc := "()V" } : Jvm.MethodName)) ∈ lw_all := lw_g (lw_at lw_m3 105 rfl) rfl
theorem q705 : (Jvm.Cond.methodLink "NoteImporter$Alignment" (9 : Nat) ({ cls := "NoteImporter$Edition", name := "size", desc := "()I" } : Jvm.MethodName)) ∈ lw_all := lw_g (lw_at lw_m3 106 rfl) rfl
theorem q710 : (Jvm.Cond.methodLink "NoteImporter$Alignment" (25 : Nat) ({ cls := "java/util/ArrayList", name := "get", desc := "(I)Ljava/lang/Object;" } : Jvm.MethodName)) ∈ lw_all := lw_g (lw_at lw_m3 111 rfl) rfl
theorem q711 : (Jvm.Cond.classLink "NoteImporter$Alignment" (31 : Nat) "java/lang/String") ∈ lw_all := lw_g (lw_at lw_m3 112 rfl) rfl
theorem q712 : (Jvm.Cond.methodLink "NoteImporter$Alignment" (33 : Nat) ({ cls := "java/lang/String", name := "equals", desc := "(Ljava/lang/Object;)Z" } : Jvm.MethodName)) ∈ lw_all := lw_g (lw_at lw_m3 113 rfl) rfl
theorem q720 : (Jvm.Cond.methodLink "NoteImporter$Alignment" (37 : Nat) ({ cls := "java/lang/Math", name := "max", desc := "(II)I" } : Jvm.MethodName)) ∈ lw_all := lw_g (lw_at lw_m3 121 rfl) rfl
theorem q721 : (Jvm.Cond.methodLink "NoteImporter$Alignment" (43 : Nat) ({ cls := "NoteImporter$Alignment", name := "walk", desc := "(LNoteImporter$Edition;LNoteImporter$Edition;[I)V" } : Jvm.MethodName)) ∈ lw_all := lw_g (lw_at lw_m3 122 rfl) rfl
theorem q722 : (Jvm.Cond.privateMethod ({ cls := "NoteImporter$Alignment", name := "walk", desc := "(LNoteImporter$Edition;LNoteImporter$Edition;[I)V" } : Jvm.MethodName)) ∈ lw_tbl := lw_at lw_m3 123 rfl
theorem q723 : (Jvm.Cond.instanceMethod ({ cls := "NoteImporter$Alignment", name := "walk", desc := "(LNoteImporter$Edition;LNoteImporter$Edition;[I)V" } : Jvm.MethodName)) ∈ lw_all := lw_g (lw_at lw_m3 124 rfl) rfl
theorem q724 : (Jvm.Cond.code ({ cls := "NoteImporter$Alignment", name := "walk", desc := "(LNoteImporter$Edition;LNoteImporter$Edition;[I)V" } : Jvm.MethodName) prog_2_method_2_code (7 : Nat) (Option.none : Option Jvm.ClassFile.FieldType)) ∈ lw_all := lw_g (lw_at lw_m3 125 rfl) rfl
theorem q725 : (Jvm.Cond.fieldLink "NoteImporter$Alignment" (15 : Nat) "NoteImporter$Alignment" "partners" "[I") ∈ lw_all := lw_g (lw_at lw_m3 126 rfl) rfl
theorem q728 : (Jvm.Cond.laysFinal "NoteImporter$Alignment" "NoteImporter$Alignment" "partners" "[I") ∈ lw_all := lw_g (lw_at lw_m3 129 rfl) rfl
theorem q729 : (Jvm.Cond.soleField "NoteImporter$Alignment" "partners") ∈ lw_all := lw_g (lw_at lw_m3 130 rfl) rfl
theorem q730 : (Jvm.Cond.superclass "NoteImporter$Alignment" "java/lang/Object") ∈ lw_all := lw_g (lw_at lw_m3 131 rfl) rfl
theorem q739 : (Jvm.Cond.instanceMethod ({ cls := "NoteImporter$Alignment", name := "count", desc := "(II)I" } : Jvm.MethodName)) ∈ lw_all := lw_g (lw_at lw_m3 140 rfl) rfl
theorem q740 : (Jvm.Cond.selects "NoteImporter$Alignment" ({ cls := "NoteImporter$Alignment", name := "count", desc := "(II)I" } : Jvm.MethodName) ({ cls := "NoteImporter$Alignment", name := "count", desc := "(II)I" } : Jvm.MethodName)) ∈ lw_all := lw_g (lw_at lw_m3 141 rfl) rfl
theorem q741 : (Jvm.Cond.code ({ cls := "NoteImporter$Alignment", name := "count", desc := "(II)I" } : Jvm.MethodName) prog_2_method_4_code (5 : Nat) (Option.some Jvm.ClassFile.FieldType.int)) ∈ lw_all := lw_g (lw_at lw_m3 142 rfl) rfl
theorem q747 : (Jvm.Cond.instanceMethod ({ cls := "NoteImporter$Alignment", name := "count", desc := "()I" } : Jvm.MethodName)) ∈ lw_all := lw_g (lw_at lw_m3 148 rfl) rfl
theorem q748 : (Jvm.Cond.selects "NoteImporter$Alignment" ({ cls := "NoteImporter$Alignment", name := "count", desc := "()I" } : Jvm.MethodName) ({ cls := "NoteImporter$Alignment", name := "count", desc := "()I" } : Jvm.MethodName)) ∈ lw_all := lw_g (lw_at lw_m3 149 rfl) rfl
theorem q749 : (Jvm.Cond.code ({ cls := "NoteImporter$Alignment", name := "count", desc := "()I" } : Jvm.MethodName) prog_2_method_3_code (1 : Nat) (Option.some Jvm.ClassFile.FieldType.int)) ∈ lw_all := lw_g (lw_at lw_m3 150 rfl) rfl
theorem q750 : (Jvm.Cond.methodLink "NoteImporter$Alignment" (47 : Nat) ({ cls := "NoteImporter$Alignment", name := "count", desc := "(II)I" } : Jvm.MethodName)) ∈ lw_all := lw_g (lw_at lw_m3 151 rfl) rfl
theorem q845 : (Jvm.Cond.selects "NoteImporter$Alignment" ({ cls := "java/lang/Object", name := "getClass", desc := "()Ljava/lang/Class;" } : Jvm.MethodName) ({ cls := "java/lang/Object", name := "getClass", desc := "()Ljava/lang/Class;" } : Jvm.MethodName)) ∈ lw_all := lw_g (lw_at lw_m4 6 rfl) rfl
theorem q1180 : (Jvm.Cond.selects "NoteImporter$Alignment" ({ cls := "java/lang/Object", name := "hashCode", desc := "()I" } : Jvm.MethodName) ({ cls := "java/lang/Object", name := "hashCode", desc := "()I" } : Jvm.MethodName)) ∈ lw_all := lw_g (lw_at lw_m5 101 rfl) rfl
theorem q1285 : (Jvm.Cond.selects "NoteImporter$Alignment" ({ cls := "java/lang/Object", name := "equals", desc := "(Ljava/lang/Object;)Z" } : Jvm.MethodName) ({ cls := "java/lang/Object", name := "equals", desc := "(Ljava/lang/Object;)Z" } : Jvm.MethodName)) ∈ lw_all := lw_g (lw_at lw_m5 206 rfl) rfl
theorem q1862 : (Jvm.Cond.fieldLinkNest "NoteImporter$Alignment" (21 : Nat) "NoteImporter$Edition" "words" "Ljava/util/ArrayList;" "NoteImporter") ∈ lw_tbl := lw_at lw_m8 63 rfl
theorem q3791 : (Jvm.Cond.castable "NoteImporter$Alignment" "java/lang/Object") ∈ lw_tbl := lw_at lw_m16 72 rfl
theorem in_X11 : ∀ w ∈ wsX110, w ∈ lw_all := lw_in wsX110 [728] (by decide +kernel) (by decide +kernel)

/-! NoteImporter$Anchor -/
set_option maxRecDepth 100000
def RX12 : String := "NoteImporter$Anchor"
def TX12 : u_T := fun k => match k with
  | 0 => ("NoteImporter$Anchor", "state", "I", false)
  | 1 => ("NoteImporter$Anchor", "first", "I", false)
  | 2 => ("NoteImporter$Anchor", "last", "I", false)
  | _ => ("NoteImporter$Anchor", "matched", "I", true)
def tyX12 : Nat → FieldType := fun k => match k with
  | 0 => .int
  | 1 => .int
  | 2 => .int
  | _ => .int
abbrev wsX120 : List Cond := u_ws RX12 TX12 4
theorem nmX12 : ∀ a, a < 4 → ∀ b, b < 4 → a ≠ b → (TX12 a).2.1 ≠ (TX12 b).2.1 := by decide +kernel
theorem tyX12_ok : ∀ k, k < 4 → parseFieldDescriptor (TX12 k).2.2.1 = some (tyX12 k) := by decide +kernel
abbrev cX12_init : ByteArray := prog_3_method_1_code
def yX12_init : MethodName := ⟨RX12, "<init>", "(LNoteImporter$Note;LNoteImporter$Alignment;)V"⟩
def dkwX12_init_3 : List UInt8 := [158, 0, 9, 42, 43, 44, 182, 0, 41, 177]
abbrev dktX12_init_3 : List UInt8 := dkwX12_init_3 ++ []
def dkwX12_init_2 : List UInt8 := [180, 0, 21, 100, 4, 96, 161, 0, 12, 42, 43, 44, 182, 0, 34, 167, 0, 16, 44, 182, 0, 38]
abbrev dktX12_init_2 : List UInt8 := dkwX12_init_2 ++ dktX12_init_3
def dkwX12_init_1 : List UInt8 := [180, 0, 21, 43, 180, 0, 24, 182, 0, 25, 181, 0, 31, 5, 42, 180, 0, 31, 104, 43, 180, 0, 24, 43]
abbrev dktX12_init_1 : List UInt8 := dkwX12_init_1 ++ dktX12_init_2
def dkwX12_init_0 : List UInt8 := [42, 183, 0, 3, 42, 6, 181, 0, 9, 42, 2, 181, 0, 15, 42, 2, 181, 0, 18, 42, 44, 43]
abbrev dktX12_init_0 : List UInt8 := dkwX12_init_0 ++ dktX12_init_1
theorem dksX12_init_0 : cX12_init.data.toList.drop 0 = dktX12_init_0 := by decide +kernel
theorem dksX12_init_1 : cX12_init.data.toList.drop 22 = dktX12_init_1 := dk_seg dksX12_init_0 22 rfl rfl
theorem dksX12_init_2 : cX12_init.data.toList.drop 46 = dktX12_init_2 := dk_seg dksX12_init_1 24 rfl rfl
theorem dksX12_init_3 : cX12_init.data.toList.drop 68 = dktX12_init_3 := dk_seg dksX12_init_2 22 rfl rfl
theorem dX12_init_0 : decode cX12_init 0 = .ok (.aload_n 0, 1) := dk_42 (dk_at dksX12_init_0 0 rfl rfl)
theorem dX12_init_1 : decode cX12_init 1 = .ok (.invokespecial 3, 3) := dk_183 0 3 (dk_at dksX12_init_0 1 rfl rfl)
theorem dX12_init_4 : decode cX12_init 4 = .ok (.aload_n 0, 1) := dk_42 (dk_at dksX12_init_0 4 rfl rfl)
theorem dX12_init_5 : decode cX12_init 5 = .ok (.iconst 3, 1) := dk_6 (dk_at dksX12_init_0 5 rfl rfl)
theorem dX12_init_6 : decode cX12_init 6 = .ok (.putfield 9, 3) := dk_181 0 9 (dk_at dksX12_init_0 6 rfl rfl)
theorem dX12_init_9 : decode cX12_init 9 = .ok (.aload_n 0, 1) := dk_42 (dk_at dksX12_init_0 9 rfl rfl)
theorem dX12_init_10 : decode cX12_init 10 = .ok (.iconst (-1), 1) := dk_2 (dk_at dksX12_init_0 10 rfl rfl)
theorem dX12_init_11 : decode cX12_init 11 = .ok (.putfield 15, 3) := dk_181 0 15 (dk_at dksX12_init_0 11 rfl rfl)
theorem dX12_init_14 : decode cX12_init 14 = .ok (.aload_n 0, 1) := dk_42 (dk_at dksX12_init_0 14 rfl rfl)
theorem dX12_init_15 : decode cX12_init 15 = .ok (.iconst (-1), 1) := dk_2 (dk_at dksX12_init_0 15 rfl rfl)
theorem dX12_init_16 : decode cX12_init 16 = .ok (.putfield 18, 3) := dk_181 0 18 (dk_at dksX12_init_0 16 rfl rfl)
theorem dX12_init_19 : decode cX12_init 19 = .ok (.aload_n 0, 1) := dk_42 (dk_at dksX12_init_0 19 rfl rfl)
theorem dX12_init_20 : decode cX12_init 20 = .ok (.aload_n 2, 1) := dk_44 (dk_at dksX12_init_0 20 rfl rfl)
theorem dX12_init_21 : decode cX12_init 21 = .ok (.aload_n 1, 1) := dk_43 (dk_at dksX12_init_0 21 rfl rfl)
theorem dX12_init_22 : decode cX12_init 22 = .ok (.getfield 21, 3) := dk_180 0 21 (dk_at dksX12_init_1 0 rfl rfl)
theorem dX12_init_25 : decode cX12_init 25 = .ok (.aload_n 1, 1) := dk_43 (dk_at dksX12_init_1 3 rfl rfl)
theorem dX12_init_26 : decode cX12_init 26 = .ok (.getfield 24, 3) := dk_180 0 24 (dk_at dksX12_init_1 4 rfl rfl)
theorem dX12_init_29 : decode cX12_init 29 = .ok (.invokevirtual 25, 3) := dk_182 0 25 (dk_at dksX12_init_1 7 rfl rfl)
theorem dX12_init_32 : decode cX12_init 32 = .ok (.putfield 31, 3) := dk_181 0 31 (dk_at dksX12_init_1 10 rfl rfl)
theorem dX12_init_35 : decode cX12_init 35 = .ok (.iconst 2, 1) := dk_5 (dk_at dksX12_init_1 13 rfl rfl)
theorem dX12_init_36 : decode cX12_init 36 = .ok (.aload_n 0, 1) := dk_42 (dk_at dksX12_init_1 14 rfl rfl)
theorem dX12_init_37 : decode cX12_init 37 = .ok (.getfield 31, 3) := dk_180 0 31 (dk_at dksX12_init_1 15 rfl rfl)
theorem dX12_init_40 : decode cX12_init 40 = .ok (.imul, 1) := dk_104 (dk_at dksX12_init_1 18 rfl rfl)
theorem dX12_init_41 : decode cX12_init 41 = .ok (.aload_n 1, 1) := dk_43 (dk_at dksX12_init_1 19 rfl rfl)
theorem dX12_init_42 : decode cX12_init 42 = .ok (.getfield 24, 3) := dk_180 0 24 (dk_at dksX12_init_1 20 rfl rfl)
theorem dX12_init_45 : decode cX12_init 45 = .ok (.aload_n 1, 1) := dk_43 (dk_at dksX12_init_1 23 rfl rfl)
theorem dX12_init_46 : decode cX12_init 46 = .ok (.getfield 21, 3) := dk_180 0 21 (dk_at dksX12_init_2 0 rfl rfl)
theorem dX12_init_49 : decode cX12_init 49 = .ok (.isub, 1) := dk_100 (dk_at dksX12_init_2 3 rfl rfl)
theorem dX12_init_50 : decode cX12_init 50 = .ok (.iconst 1, 1) := dk_4 (dk_at dksX12_init_2 4 rfl rfl)
theorem dX12_init_51 : decode cX12_init 51 = .ok (.iadd, 1) := dk_96 (dk_at dksX12_init_2 5 rfl rfl)
theorem dX12_init_52 : decode cX12_init 52 = .ok (.if_icmp .lt 12, 3) := dk_161 0 12 (dk_at dksX12_init_2 6 rfl rfl)
theorem dX12_init_55 : decode cX12_init 55 = .ok (.aload_n 0, 1) := dk_42 (dk_at dksX12_init_2 9 rfl rfl)
theorem dX12_init_56 : decode cX12_init 56 = .ok (.aload_n 1, 1) := dk_43 (dk_at dksX12_init_2 10 rfl rfl)
theorem dX12_init_57 : decode cX12_init 57 = .ok (.aload_n 2, 1) := dk_44 (dk_at dksX12_init_2 11 rfl rfl)
theorem dX12_init_58 : decode cX12_init 58 = .ok (.invokevirtual 34, 3) := dk_182 0 34 (dk_at dksX12_init_2 12 rfl rfl)
theorem dX12_init_61 : decode cX12_init 61 = .ok (.goto 16, 3) := dk_167 0 16 (dk_at dksX12_init_2 15 rfl rfl)
theorem dX12_init_64 : decode cX12_init 64 = .ok (.aload_n 2, 1) := dk_44 (dk_at dksX12_init_2 18 rfl rfl)
theorem dX12_init_65 : decode cX12_init 65 = .ok (.invokevirtual 38, 3) := dk_182 0 38 (dk_at dksX12_init_2 19 rfl rfl)
theorem dX12_init_68 : decode cX12_init 68 = .ok (.ifCond .le 9, 3) := dk_158 0 9 (dk_at dksX12_init_3 0 rfl rfl)
theorem dX12_init_71 : decode cX12_init 71 = .ok (.aload_n 0, 1) := dk_42 (dk_at dksX12_init_3 3 rfl rfl)
theorem dX12_init_72 : decode cX12_init 72 = .ok (.aload_n 1, 1) := dk_43 (dk_at dksX12_init_3 4 rfl rfl)
theorem dX12_init_73 : decode cX12_init 73 = .ok (.aload_n 2, 1) := dk_44 (dk_at dksX12_init_3 5 rfl rfl)
theorem dX12_init_74 : decode cX12_init 74 = .ok (.invokevirtual 41, 3) := dk_182 0 41 (dk_at dksX12_init_3 6 rfl rfl)
theorem dX12_init_77 : decode cX12_init 77 = .ok (.return_, 1) := dk_177 (dk_at dksX12_init_3 9 rfl rfl)
abbrev cX12_span : ByteArray := prog_3_method_2_code
def yX12_span : MethodName := ⟨RX12, "span", "(LNoteImporter$Note;LNoteImporter$Alignment;)V"⟩
def dkwX12_span_4 : List UInt8 := [42, 180, 0, 15, 100, 4, 96, 29, 160, 0, 7, 3, 167, 0, 4, 4, 181, 0, 9, 177]
abbrev dktX12_span_4 : List UInt8 := dkwX12_span_4 ++ []
def dkwX12_span_3 : List UInt8 := [180, 0, 24, 43, 180, 0, 21, 100, 4, 96, 62, 42, 42, 180, 0, 31, 29, 160, 0, 22, 42, 180, 0, 18]
abbrev dktX12_span_3 : List UInt8 := dkwX12_span_3 ++ dktX12_span_4
def dkwX12_span_2 : List UInt8 := [160, 0, 10, 42, 180, 0, 18, 167, 0, 5, 21, 4, 181, 0, 18, 132, 3, 1, 167, 255, 197, 43]
abbrev dktX12_span_2 : List UInt8 := dkwX12_span_2 ++ dktX12_span_3
def dkwX12_span_1 : List UInt8 := [180, 0, 15, 2, 160, 0, 8, 21, 4, 167, 0, 7, 42, 180, 0, 15, 181, 0, 15, 42, 21, 4, 2]
abbrev dktX12_span_1 : List UInt8 := dkwX12_span_1 ++ dktX12_span_2
def dkwX12_span_0 : List UInt8 := [43, 180, 0, 21, 62, 29, 43, 180, 0, 24, 163, 0, 57, 44, 180, 0, 44, 29, 46, 54, 4, 42, 42]
abbrev dktX12_span_0 : List UInt8 := dkwX12_span_0 ++ dktX12_span_1
theorem dksX12_span_0 : cX12_span.data.toList.drop 0 = dktX12_span_0 := by decide +kernel
theorem dksX12_span_1 : cX12_span.data.toList.drop 23 = dktX12_span_1 := dk_seg dksX12_span_0 23 rfl rfl
theorem dksX12_span_2 : cX12_span.data.toList.drop 46 = dktX12_span_2 := dk_seg dksX12_span_1 23 rfl rfl
theorem dksX12_span_3 : cX12_span.data.toList.drop 68 = dktX12_span_3 := dk_seg dksX12_span_2 22 rfl rfl
theorem dksX12_span_4 : cX12_span.data.toList.drop 92 = dktX12_span_4 := dk_seg dksX12_span_3 24 rfl rfl
theorem dX12_span_0 : decode cX12_span 0 = .ok (.aload_n 1, 1) := dk_43 (dk_at dksX12_span_0 0 rfl rfl)
theorem dX12_span_1 : decode cX12_span 1 = .ok (.getfield 21, 3) := dk_180 0 21 (dk_at dksX12_span_0 1 rfl rfl)
theorem dX12_span_4 : decode cX12_span 4 = .ok (.istore_n 3, 1) := dk_62 (dk_at dksX12_span_0 4 rfl rfl)
theorem dX12_span_5 : decode cX12_span 5 = .ok (.iload_n 3, 1) := dk_29 (dk_at dksX12_span_0 5 rfl rfl)
theorem dX12_span_6 : decode cX12_span 6 = .ok (.aload_n 1, 1) := dk_43 (dk_at dksX12_span_0 6 rfl rfl)
theorem dX12_span_7 : decode cX12_span 7 = .ok (.getfield 24, 3) := dk_180 0 24 (dk_at dksX12_span_0 7 rfl rfl)
theorem dX12_span_10 : decode cX12_span 10 = .ok (.if_icmp .gt 57, 3) := dk_163 0 57 (dk_at dksX12_span_0 10 rfl rfl)
theorem dX12_span_13 : decode cX12_span 13 = .ok (.aload_n 2, 1) := dk_44 (dk_at dksX12_span_0 13 rfl rfl)
theorem dX12_span_14 : decode cX12_span 14 = .ok (.getfield 44, 3) := dk_180 0 44 (dk_at dksX12_span_0 14 rfl rfl)
theorem dX12_span_17 : decode cX12_span 17 = .ok (.iload_n 3, 1) := dk_29 (dk_at dksX12_span_0 17 rfl rfl)
theorem dX12_span_18 : decode cX12_span 18 = .ok (.iaload, 1) := dk_46 (dk_at dksX12_span_0 18 rfl rfl)
theorem dX12_span_19 : decode cX12_span 19 = .ok (.istore 4, 2) := dk_54 4 (dk_at dksX12_span_0 19 rfl rfl)
theorem dX12_span_21 : decode cX12_span 21 = .ok (.aload_n 0, 1) := dk_42 (dk_at dksX12_span_0 21 rfl rfl)
theorem dX12_span_22 : decode cX12_span 22 = .ok (.aload_n 0, 1) := dk_42 (dk_at dksX12_span_0 22 rfl rfl)
theorem dX12_span_23 : decode cX12_span 23 = .ok (.getfield 15, 3) := dk_180 0 15 (dk_at dksX12_span_1 0 rfl rfl)
theorem dX12_span_26 : decode cX12_span 26 = .ok (.iconst (-1), 1) := dk_2 (dk_at dksX12_span_1 3 rfl rfl)
theorem dX12_span_27 : decode cX12_span 27 = .ok (.if_icmp .ne 8, 3) := dk_160 0 8 (dk_at dksX12_span_1 4 rfl rfl)
theorem dX12_span_30 : decode cX12_span 30 = .ok (.iload 4, 2) := dk_21 4 (dk_at dksX12_span_1 7 rfl rfl)
theorem dX12_span_32 : decode cX12_span 32 = .ok (.goto 7, 3) := dk_167 0 7 (dk_at dksX12_span_1 9 rfl rfl)
theorem dX12_span_35 : decode cX12_span 35 = .ok (.aload_n 0, 1) := dk_42 (dk_at dksX12_span_1 12 rfl rfl)
theorem dX12_span_36 : decode cX12_span 36 = .ok (.getfield 15, 3) := dk_180 0 15 (dk_at dksX12_span_1 13 rfl rfl)
theorem dX12_span_39 : decode cX12_span 39 = .ok (.putfield 15, 3) := dk_181 0 15 (dk_at dksX12_span_1 16 rfl rfl)
theorem dX12_span_42 : decode cX12_span 42 = .ok (.aload_n 0, 1) := dk_42 (dk_at dksX12_span_1 19 rfl rfl)
theorem dX12_span_43 : decode cX12_span 43 = .ok (.iload 4, 2) := dk_21 4 (dk_at dksX12_span_1 20 rfl rfl)
theorem dX12_span_45 : decode cX12_span 45 = .ok (.iconst (-1), 1) := dk_2 (dk_at dksX12_span_1 22 rfl rfl)
theorem dX12_span_46 : decode cX12_span 46 = .ok (.if_icmp .ne 10, 3) := dk_160 0 10 (dk_at dksX12_span_2 0 rfl rfl)
theorem dX12_span_49 : decode cX12_span 49 = .ok (.aload_n 0, 1) := dk_42 (dk_at dksX12_span_2 3 rfl rfl)
theorem dX12_span_50 : decode cX12_span 50 = .ok (.getfield 18, 3) := dk_180 0 18 (dk_at dksX12_span_2 4 rfl rfl)
theorem dX12_span_53 : decode cX12_span 53 = .ok (.goto 5, 3) := dk_167 0 5 (dk_at dksX12_span_2 7 rfl rfl)
theorem dX12_span_56 : decode cX12_span 56 = .ok (.iload 4, 2) := dk_21 4 (dk_at dksX12_span_2 10 rfl rfl)
theorem dX12_span_58 : decode cX12_span 58 = .ok (.putfield 18, 3) := dk_181 0 18 (dk_at dksX12_span_2 12 rfl rfl)
theorem dX12_span_61 : decode cX12_span 61 = .ok (.iinc 3 1, 3) := dk_132 3 1 (dk_at dksX12_span_2 15 rfl rfl)
theorem dX12_span_64 : decode cX12_span 64 = .ok (.goto (-59), 3) := dk_167 255 197 (dk_at dksX12_span_2 18 rfl rfl)
theorem dX12_span_67 : decode cX12_span 67 = .ok (.aload_n 1, 1) := dk_43 (dk_at dksX12_span_2 21 rfl rfl)
theorem dX12_span_68 : decode cX12_span 68 = .ok (.getfield 24, 3) := dk_180 0 24 (dk_at dksX12_span_3 0 rfl rfl)
theorem dX12_span_71 : decode cX12_span 71 = .ok (.aload_n 1, 1) := dk_43 (dk_at dksX12_span_3 3 rfl rfl)
theorem dX12_span_72 : decode cX12_span 72 = .ok (.getfield 21, 3) := dk_180 0 21 (dk_at dksX12_span_3 4 rfl rfl)
theorem dX12_span_75 : decode cX12_span 75 = .ok (.isub, 1) := dk_100 (dk_at dksX12_span_3 7 rfl rfl)
theorem dX12_span_76 : decode cX12_span 76 = .ok (.iconst 1, 1) := dk_4 (dk_at dksX12_span_3 8 rfl rfl)
theorem dX12_span_77 : decode cX12_span 77 = .ok (.iadd, 1) := dk_96 (dk_at dksX12_span_3 9 rfl rfl)
theorem dX12_span_78 : decode cX12_span 78 = .ok (.istore_n 3, 1) := dk_62 (dk_at dksX12_span_3 10 rfl rfl)
theorem dX12_span_79 : decode cX12_span 79 = .ok (.aload_n 0, 1) := dk_42 (dk_at dksX12_span_3 11 rfl rfl)
theorem dX12_span_80 : decode cX12_span 80 = .ok (.aload_n 0, 1) := dk_42 (dk_at dksX12_span_3 12 rfl rfl)
theorem dX12_span_81 : decode cX12_span 81 = .ok (.getfield 31, 3) := dk_180 0 31 (dk_at dksX12_span_3 13 rfl rfl)
theorem dX12_span_84 : decode cX12_span 84 = .ok (.iload_n 3, 1) := dk_29 (dk_at dksX12_span_3 16 rfl rfl)
theorem dX12_span_85 : decode cX12_span 85 = .ok (.if_icmp .ne 22, 3) := dk_160 0 22 (dk_at dksX12_span_3 17 rfl rfl)
theorem dX12_span_88 : decode cX12_span 88 = .ok (.aload_n 0, 1) := dk_42 (dk_at dksX12_span_3 20 rfl rfl)
theorem dX12_span_89 : decode cX12_span 89 = .ok (.getfield 18, 3) := dk_180 0 18 (dk_at dksX12_span_3 21 rfl rfl)
theorem dX12_span_92 : decode cX12_span 92 = .ok (.aload_n 0, 1) := dk_42 (dk_at dksX12_span_4 0 rfl rfl)
theorem dX12_span_93 : decode cX12_span 93 = .ok (.getfield 15, 3) := dk_180 0 15 (dk_at dksX12_span_4 1 rfl rfl)
theorem dX12_span_96 : decode cX12_span 96 = .ok (.isub, 1) := dk_100 (dk_at dksX12_span_4 4 rfl rfl)
theorem dX12_span_97 : decode cX12_span 97 = .ok (.iconst 1, 1) := dk_4 (dk_at dksX12_span_4 5 rfl rfl)
theorem dX12_span_98 : decode cX12_span 98 = .ok (.iadd, 1) := dk_96 (dk_at dksX12_span_4 6 rfl rfl)
theorem dX12_span_99 : decode cX12_span 99 = .ok (.iload_n 3, 1) := dk_29 (dk_at dksX12_span_4 7 rfl rfl)
theorem dX12_span_100 : decode cX12_span 100 = .ok (.if_icmp .ne 7, 3) := dk_160 0 7 (dk_at dksX12_span_4 8 rfl rfl)
theorem dX12_span_103 : decode cX12_span 103 = .ok (.iconst 0, 1) := dk_3 (dk_at dksX12_span_4 11 rfl rfl)
theorem dX12_span_104 : decode cX12_span 104 = .ok (.goto 4, 3) := dk_167 0 4 (dk_at dksX12_span_4 12 rfl rfl)
theorem dX12_span_107 : decode cX12_span 107 = .ok (.iconst 1, 1) := dk_4 (dk_at dksX12_span_4 15 rfl rfl)
theorem dX12_span_108 : decode cX12_span 108 = .ok (.putfield 9, 3) := dk_181 0 9 (dk_at dksX12_span_4 16 rfl rfl)
theorem dX12_span_111 : decode cX12_span 111 = .ok (.return_, 1) := dk_177 (dk_at dksX12_span_4 19 rfl rfl)
abbrev cX12_near : ByteArray := prog_3_method_3_code
def yX12_near : MethodName := ⟨RX12, "near", "(LNoteImporter$Note;LNoteImporter$Alignment;)V"⟩
def dkwX12_near_4 : List UInt8 := [180, 0, 15, 181, 0, 18, 177]
abbrev dktX12_near_4 : List UInt8 := dkwX12_near_4 ++ []
def dkwX12_near_3 : List UInt8 := [132, 5, 1, 167, 255, 190, 42, 5, 181, 0, 9, 42, 44, 180, 0, 44, 29, 46, 181, 0, 15, 42, 42]
abbrev dktX12_near_3 : List UInt8 := dkwX12_near_3 ++ dktX12_near_4
def dkwX12_near_2 : List UInt8 := [46, 2, 159, 0, 22, 29, 2, 159, 0, 10, 21, 6, 21, 4, 162, 0, 10, 21, 5, 62, 21, 6, 54, 4]
abbrev dktX12_near_2 : List UInt8 := dkwX12_near_2 ++ dktX12_near_3
def dkwX12_near_1 : List UInt8 := [21, 5, 100, 21, 5, 43, 180, 0, 24, 100, 184, 0, 48, 184, 0, 48, 54, 6, 44, 180, 0, 44, 21, 5]
abbrev dktX12_near_1 : List UInt8 := dkwX12_near_1 ++ dktX12_near_2
def dkwX12_near_0 : List UInt8 := [2, 62, 3, 54, 4, 3, 54, 5, 21, 5, 44, 180, 0, 44, 190, 162, 0, 62, 3, 43, 180, 0, 21]
abbrev dktX12_near_0 : List UInt8 := dkwX12_near_0 ++ dktX12_near_1
theorem dksX12_near_0 : cX12_near.data.toList.drop 0 = dktX12_near_0 := by decide +kernel
theorem dksX12_near_1 : cX12_near.data.toList.drop 23 = dktX12_near_1 := dk_seg dksX12_near_0 23 rfl rfl
theorem dksX12_near_2 : cX12_near.data.toList.drop 47 = dktX12_near_2 := dk_seg dksX12_near_1 24 rfl rfl
theorem dksX12_near_3 : cX12_near.data.toList.drop 71 = dktX12_near_3 := dk_seg dksX12_near_2 24 rfl rfl
theorem dksX12_near_4 : cX12_near.data.toList.drop 94 = dktX12_near_4 := dk_seg dksX12_near_3 23 rfl rfl
theorem dX12_near_0 : decode cX12_near 0 = .ok (.iconst (-1), 1) := dk_2 (dk_at dksX12_near_0 0 rfl rfl)
theorem dX12_near_1 : decode cX12_near 1 = .ok (.istore_n 3, 1) := dk_62 (dk_at dksX12_near_0 1 rfl rfl)
theorem dX12_near_2 : decode cX12_near 2 = .ok (.iconst 0, 1) := dk_3 (dk_at dksX12_near_0 2 rfl rfl)
theorem dX12_near_3 : decode cX12_near 3 = .ok (.istore 4, 2) := dk_54 4 (dk_at dksX12_near_0 3 rfl rfl)
theorem dX12_near_5 : decode cX12_near 5 = .ok (.iconst 0, 1) := dk_3 (dk_at dksX12_near_0 5 rfl rfl)
theorem dX12_near_6 : decode cX12_near 6 = .ok (.istore 5, 2) := dk_54 5 (dk_at dksX12_near_0 6 rfl rfl)
theorem dX12_near_8 : decode cX12_near 8 = .ok (.iload 5, 2) := dk_21 5 (dk_at dksX12_near_0 8 rfl rfl)
theorem dX12_near_10 : decode cX12_near 10 = .ok (.aload_n 2, 1) := dk_44 (dk_at dksX12_near_0 10 rfl rfl)
theorem dX12_near_11 : decode cX12_near 11 = .ok (.getfield 44, 3) := dk_180 0 44 (dk_at dksX12_near_0 11 rfl rfl)
theorem dX12_near_14 : decode cX12_near 14 = .ok (.arraylength, 1) := dk_190 (dk_at dksX12_near_0 14 rfl rfl)
theorem dX12_near_15 : decode cX12_near 15 = .ok (.if_icmp .ge 62, 3) := dk_162 0 62 (dk_at dksX12_near_0 15 rfl rfl)
theorem dX12_near_18 : decode cX12_near 18 = .ok (.iconst 0, 1) := dk_3 (dk_at dksX12_near_0 18 rfl rfl)
theorem dX12_near_19 : decode cX12_near 19 = .ok (.aload_n 1, 1) := dk_43 (dk_at dksX12_near_0 19 rfl rfl)
theorem dX12_near_20 : decode cX12_near 20 = .ok (.getfield 21, 3) := dk_180 0 21 (dk_at dksX12_near_0 20 rfl rfl)
theorem dX12_near_23 : decode cX12_near 23 = .ok (.iload 5, 2) := dk_21 5 (dk_at dksX12_near_1 0 rfl rfl)
theorem dX12_near_25 : decode cX12_near 25 = .ok (.isub, 1) := dk_100 (dk_at dksX12_near_1 2 rfl rfl)
theorem dX12_near_26 : decode cX12_near 26 = .ok (.iload 5, 2) := dk_21 5 (dk_at dksX12_near_1 3 rfl rfl)
theorem dX12_near_28 : decode cX12_near 28 = .ok (.aload_n 1, 1) := dk_43 (dk_at dksX12_near_1 5 rfl rfl)
theorem dX12_near_29 : decode cX12_near 29 = .ok (.getfield 24, 3) := dk_180 0 24 (dk_at dksX12_near_1 6 rfl rfl)
theorem dX12_near_32 : decode cX12_near 32 = .ok (.isub, 1) := dk_100 (dk_at dksX12_near_1 9 rfl rfl)
theorem dX12_near_33 : decode cX12_near 33 = .ok (.invokestatic 48, 3) := dk_184 0 48 (dk_at dksX12_near_1 10 rfl rfl)
theorem dX12_near_36 : decode cX12_near 36 = .ok (.invokestatic 48, 3) := dk_184 0 48 (dk_at dksX12_near_1 13 rfl rfl)
theorem dX12_near_39 : decode cX12_near 39 = .ok (.istore 6, 2) := dk_54 6 (dk_at dksX12_near_1 16 rfl rfl)
theorem dX12_near_41 : decode cX12_near 41 = .ok (.aload_n 2, 1) := dk_44 (dk_at dksX12_near_1 18 rfl rfl)
theorem dX12_near_42 : decode cX12_near 42 = .ok (.getfield 44, 3) := dk_180 0 44 (dk_at dksX12_near_1 19 rfl rfl)
theorem dX12_near_45 : decode cX12_near 45 = .ok (.iload 5, 2) := dk_21 5 (dk_at dksX12_near_1 22 rfl rfl)
theorem dX12_near_47 : decode cX12_near 47 = .ok (.iaload, 1) := dk_46 (dk_at dksX12_near_2 0 rfl rfl)
theorem dX12_near_48 : decode cX12_near 48 = .ok (.iconst (-1), 1) := dk_2 (dk_at dksX12_near_2 1 rfl rfl)
theorem dX12_near_49 : decode cX12_near 49 = .ok (.if_icmp .eq 22, 3) := dk_159 0 22 (dk_at dksX12_near_2 2 rfl rfl)
theorem dX12_near_52 : decode cX12_near 52 = .ok (.iload_n 3, 1) := dk_29 (dk_at dksX12_near_2 5 rfl rfl)
theorem dX12_near_53 : decode cX12_near 53 = .ok (.iconst (-1), 1) := dk_2 (dk_at dksX12_near_2 6 rfl rfl)
theorem dX12_near_54 : decode cX12_near 54 = .ok (.if_icmp .eq 10, 3) := dk_159 0 10 (dk_at dksX12_near_2 7 rfl rfl)
theorem dX12_near_57 : decode cX12_near 57 = .ok (.iload 6, 2) := dk_21 6 (dk_at dksX12_near_2 10 rfl rfl)
theorem dX12_near_59 : decode cX12_near 59 = .ok (.iload 4, 2) := dk_21 4 (dk_at dksX12_near_2 12 rfl rfl)
theorem dX12_near_61 : decode cX12_near 61 = .ok (.if_icmp .ge 10, 3) := dk_162 0 10 (dk_at dksX12_near_2 14 rfl rfl)
theorem dX12_near_64 : decode cX12_near 64 = .ok (.iload 5, 2) := dk_21 5 (dk_at dksX12_near_2 17 rfl rfl)
theorem dX12_near_66 : decode cX12_near 66 = .ok (.istore_n 3, 1) := dk_62 (dk_at dksX12_near_2 19 rfl rfl)
theorem dX12_near_67 : decode cX12_near 67 = .ok (.iload 6, 2) := dk_21 6 (dk_at dksX12_near_2 20 rfl rfl)
theorem dX12_near_69 : decode cX12_near 69 = .ok (.istore 4, 2) := dk_54 4 (dk_at dksX12_near_2 22 rfl rfl)
theorem dX12_near_71 : decode cX12_near 71 = .ok (.iinc 5 1, 3) := dk_132 5 1 (dk_at dksX12_near_3 0 rfl rfl)
theorem dX12_near_74 : decode cX12_near 74 = .ok (.goto (-66), 3) := dk_167 255 190 (dk_at dksX12_near_3 3 rfl rfl)
theorem dX12_near_77 : decode cX12_near 77 = .ok (.aload_n 0, 1) := dk_42 (dk_at dksX12_near_3 6 rfl rfl)
theorem dX12_near_78 : decode cX12_near 78 = .ok (.iconst 2, 1) := dk_5 (dk_at dksX12_near_3 7 rfl rfl)
theorem dX12_near_79 : decode cX12_near 79 = .ok (.putfield 9, 3) := dk_181 0 9 (dk_at dksX12_near_3 8 rfl rfl)
theorem dX12_near_82 : decode cX12_near 82 = .ok (.aload_n 0, 1) := dk_42 (dk_at dksX12_near_3 11 rfl rfl)
theorem dX12_near_83 : decode cX12_near 83 = .ok (.aload_n 2, 1) := dk_44 (dk_at dksX12_near_3 12 rfl rfl)
theorem dX12_near_84 : decode cX12_near 84 = .ok (.getfield 44, 3) := dk_180 0 44 (dk_at dksX12_near_3 13 rfl rfl)
theorem dX12_near_87 : decode cX12_near 87 = .ok (.iload_n 3, 1) := dk_29 (dk_at dksX12_near_3 16 rfl rfl)
theorem dX12_near_88 : decode cX12_near 88 = .ok (.iaload, 1) := dk_46 (dk_at dksX12_near_3 17 rfl rfl)
theorem dX12_near_89 : decode cX12_near 89 = .ok (.putfield 15, 3) := dk_181 0 15 (dk_at dksX12_near_3 18 rfl rfl)
theorem dX12_near_92 : decode cX12_near 92 = .ok (.aload_n 0, 1) := dk_42 (dk_at dksX12_near_3 21 rfl rfl)
theorem dX12_near_93 : decode cX12_near 93 = .ok (.aload_n 0, 1) := dk_42 (dk_at dksX12_near_3 22 rfl rfl)
theorem dX12_near_94 : decode cX12_near 94 = .ok (.getfield 15, 3) := dk_180 0 15 (dk_at dksX12_near_4 0 rfl rfl)
theorem dX12_near_97 : decode cX12_near 97 = .ok (.putfield 18, 3) := dk_181 0 18 (dk_at dksX12_near_4 3 rfl rfl)
theorem dX12_near_100 : decode cX12_near 100 = .ok (.return_, 1) := dk_177 (dk_at dksX12_near_4 6 rfl rfl)
abbrev cX12_shared : ByteArray := prog_3_method_6_code
def yX12_shared : MethodName := ⟨RX12, "shared", "(LNoteImporter$Anchor;)I"⟩
def dkwX12_shared_1 : List UInt8 := [4, 96, 184, 0, 48, 172]
abbrev dktX12_shared_1 : List UInt8 := dkwX12_shared_1 ++ []
def dkwX12_shared_0 : List UInt8 := [3, 42, 180, 0, 18, 43, 180, 0, 18, 184, 0, 57, 42, 180, 0, 15, 43, 180, 0, 15, 184, 0, 48, 100]
abbrev dktX12_shared_0 : List UInt8 := dkwX12_shared_0 ++ dktX12_shared_1
theorem dksX12_shared_0 : cX12_shared.data.toList.drop 0 = dktX12_shared_0 := by decide +kernel
theorem dksX12_shared_1 : cX12_shared.data.toList.drop 24 = dktX12_shared_1 := dk_seg dksX12_shared_0 24 rfl rfl
theorem dX12_shared_0 : decode cX12_shared 0 = .ok (.iconst 0, 1) := dk_3 (dk_at dksX12_shared_0 0 rfl rfl)
theorem dX12_shared_1 : decode cX12_shared 1 = .ok (.aload_n 0, 1) := dk_42 (dk_at dksX12_shared_0 1 rfl rfl)
theorem dX12_shared_2 : decode cX12_shared 2 = .ok (.getfield 18, 3) := dk_180 0 18 (dk_at dksX12_shared_0 2 rfl rfl)
theorem dX12_shared_5 : decode cX12_shared 5 = .ok (.aload_n 1, 1) := dk_43 (dk_at dksX12_shared_0 5 rfl rfl)
theorem dX12_shared_6 : decode cX12_shared 6 = .ok (.getfield 18, 3) := dk_180 0 18 (dk_at dksX12_shared_0 6 rfl rfl)
theorem dX12_shared_9 : decode cX12_shared 9 = .ok (.invokestatic 57, 3) := dk_184 0 57 (dk_at dksX12_shared_0 9 rfl rfl)
theorem dX12_shared_12 : decode cX12_shared 12 = .ok (.aload_n 0, 1) := dk_42 (dk_at dksX12_shared_0 12 rfl rfl)
theorem dX12_shared_13 : decode cX12_shared 13 = .ok (.getfield 15, 3) := dk_180 0 15 (dk_at dksX12_shared_0 13 rfl rfl)
theorem dX12_shared_16 : decode cX12_shared 16 = .ok (.aload_n 1, 1) := dk_43 (dk_at dksX12_shared_0 16 rfl rfl)
theorem dX12_shared_17 : decode cX12_shared 17 = .ok (.getfield 15, 3) := dk_180 0 15 (dk_at dksX12_shared_0 17 rfl rfl)
theorem dX12_shared_20 : decode cX12_shared 20 = .ok (.invokestatic 48, 3) := dk_184 0 48 (dk_at dksX12_shared_0 20 rfl rfl)
theorem dX12_shared_23 : decode cX12_shared 23 = .ok (.isub, 1) := dk_100 (dk_at dksX12_shared_0 23 rfl rfl)
theorem dX12_shared_24 : decode cX12_shared 24 = .ok (.iconst 1, 1) := dk_4 (dk_at dksX12_shared_1 0 rfl rfl)
theorem dX12_shared_25 : decode cX12_shared 25 = .ok (.iadd, 1) := dk_96 (dk_at dksX12_shared_1 1 rfl rfl)
theorem dX12_shared_26 : decode cX12_shared 26 = .ok (.invokestatic 48, 3) := dk_184 0 48 (dk_at dksX12_shared_1 2 rfl rfl)
theorem dX12_shared_29 : decode cX12_shared 29 = .ok (.ireturn, 1) := dk_172 (dk_at dksX12_shared_1 5 rfl rfl)
abbrev cX12_length : ByteArray := prog_3_method_5_code
def yX12_length : MethodName := ⟨RX12, "length", "()I"⟩
def dkwX12_length_0 : List UInt8 := [42, 180, 0, 18, 42, 180, 0, 15, 100, 4, 96, 172]
abbrev dktX12_length_0 : List UInt8 := dkwX12_length_0 ++ []
theorem dksX12_length_0 : cX12_length.data.toList.drop 0 = dktX12_length_0 := by decide +kernel
theorem dX12_length_0 : decode cX12_length 0 = .ok (.aload_n 0, 1) := dk_42 (dk_at dksX12_length_0 0 rfl rfl)
theorem dX12_length_1 : decode cX12_length 1 = .ok (.getfield 18, 3) := dk_180 0 18 (dk_at dksX12_length_0 1 rfl rfl)
theorem dX12_length_4 : decode cX12_length 4 = .ok (.aload_n 0, 1) := dk_42 (dk_at dksX12_length_0 4 rfl rfl)
theorem dX12_length_5 : decode cX12_length 5 = .ok (.getfield 15, 3) := dk_180 0 15 (dk_at dksX12_length_0 5 rfl rfl)
theorem dX12_length_8 : decode cX12_length 8 = .ok (.isub, 1) := dk_100 (dk_at dksX12_length_0 8 rfl rfl)
theorem dX12_length_9 : decode cX12_length 9 = .ok (.iconst 1, 1) := dk_4 (dk_at dksX12_length_0 9 rfl rfl)
theorem dX12_length_10 : decode cX12_length 10 = .ok (.iadd, 1) := dk_96 (dk_at dksX12_length_0 10 rfl rfl)
theorem dX12_length_11 : decode cX12_length 11 = .ok (.ireturn, 1) := dk_172 (dk_at dksX12_length_0 11 rfl rfl)
abbrev cX12_has : ByteArray := prog_3_method_4_code
def yX12_has : MethodName := ⟨RX12, "has", "(I)Z"⟩
def dkwX12_has_1 : List UInt8 := [153, 0, 7, 4, 167, 0, 4, 3, 172]
abbrev dktX12_has_1 : List UInt8 := dkwX12_has_1 ++ []
def dkwX12_has_0 : List UInt8 := [42, 180, 0, 9, 6, 159, 0, 25, 27, 133, 42, 180, 0, 15, 133, 42, 180, 0, 18, 133, 184, 0, 53]
abbrev dktX12_has_0 : List UInt8 := dkwX12_has_0 ++ dktX12_has_1
theorem dksX12_has_0 : cX12_has.data.toList.drop 0 = dktX12_has_0 := by decide +kernel
theorem dksX12_has_1 : cX12_has.data.toList.drop 23 = dktX12_has_1 := dk_seg dksX12_has_0 23 rfl rfl
theorem dX12_has_0 : decode cX12_has 0 = .ok (.aload_n 0, 1) := dk_42 (dk_at dksX12_has_0 0 rfl rfl)
theorem dX12_has_1 : decode cX12_has 1 = .ok (.getfield 9, 3) := dk_180 0 9 (dk_at dksX12_has_0 1 rfl rfl)
theorem dX12_has_4 : decode cX12_has 4 = .ok (.iconst 3, 1) := dk_6 (dk_at dksX12_has_0 4 rfl rfl)
theorem dX12_has_5 : decode cX12_has 5 = .ok (.if_icmp .eq 25, 3) := dk_159 0 25 (dk_at dksX12_has_0 5 rfl rfl)
theorem dX12_has_8 : decode cX12_has 8 = .ok (.iload_n 1, 1) := dk_27 (dk_at dksX12_has_0 8 rfl rfl)
theorem dX12_has_9 : decode cX12_has 9 = .ok (.i2l, 1) := dk_133 (dk_at dksX12_has_0 9 rfl rfl)
theorem dX12_has_10 : decode cX12_has 10 = .ok (.aload_n 0, 1) := dk_42 (dk_at dksX12_has_0 10 rfl rfl)
theorem dX12_has_11 : decode cX12_has 11 = .ok (.getfield 15, 3) := dk_180 0 15 (dk_at dksX12_has_0 11 rfl rfl)
theorem dX12_has_14 : decode cX12_has 14 = .ok (.i2l, 1) := dk_133 (dk_at dksX12_has_0 14 rfl rfl)
theorem dX12_has_15 : decode cX12_has 15 = .ok (.aload_n 0, 1) := dk_42 (dk_at dksX12_has_0 15 rfl rfl)
theorem dX12_has_16 : decode cX12_has 16 = .ok (.getfield 18, 3) := dk_180 0 18 (dk_at dksX12_has_0 16 rfl rfl)
theorem dX12_has_19 : decode cX12_has 19 = .ok (.i2l, 1) := dk_133 (dk_at dksX12_has_0 19 rfl rfl)
theorem dX12_has_20 : decode cX12_has 20 = .ok (.invokestatic 53, 3) := dk_184 0 53 (dk_at dksX12_has_0 20 rfl rfl)
theorem dX12_has_23 : decode cX12_has 23 = .ok (.ifCond .eq 7, 3) := dk_153 0 7 (dk_at dksX12_has_1 0 rfl rfl)
theorem dX12_has_26 : decode cX12_has 26 = .ok (.iconst 1, 1) := dk_4 (dk_at dksX12_has_1 3 rfl rfl)
theorem dX12_has_27 : decode cX12_has 27 = .ok (.goto 4, 3) := dk_167 0 4 (dk_at dksX12_has_1 4 rfl rfl)
theorem dX12_has_30 : decode cX12_has 30 = .ok (.iconst 0, 1) := dk_3 (dk_at dksX12_has_1 7 rfl rfl)
theorem dX12_has_31 : decode cX12_has 31 = .ok (.ireturn, 1) := dk_172 (dk_at dksX12_has_1 8 rfl rfl)
theorem q179 : (Jvm.Cond.initialized "NoteImporter$Anchor") ∈ lw_all := lw_g (lw_at lw_m1 60 rfl) rfl
theorem q726 : (Jvm.Cond.fieldLinkNest "NoteImporter$Anchor" (44 : Nat) "NoteImporter$Alignment" "partners" "[I" "NoteImporter") ∈ lw_tbl := lw_at lw_m3 127 rfl
theorem q732 : (Jvm.Cond.instantiable "NoteImporter$Anchor" (4 : Nat)) ∈ lw_all := lw_g (lw_at lw_m3 133 rfl) rfl
theorem q735 : (Jvm.Cond.instanceMethod ({ cls := "NoteImporter$Anchor", name := "<init>", desc := "(LNoteImporter$Note;LNoteImporter$Alignment;)V" } : Jvm.MethodName)) ∈ lw_all := lw_g (lw_at lw_m3 136 rfl) rfl
theorem q736 : (Jvm.Cond.code ({ cls := "NoteImporter$Anchor", name := "<init>", desc := "(LNoteImporter$Note;LNoteImporter$Alignment;)V" } : Jvm.MethodName) prog_3_method_1_code (3 : Nat) (Option.none : Option Jvm.ClassFile.FieldType)) ∈ lw_all := lw_g (lw_at lw_m3 137 rfl) rfl
theorem q737 : (Jvm.Cond.methodLink "NoteImporter$Anchor" (3 : Nat) ({ cls := "java/lang/Object", name := "<init>", desc := "()V" } : Jvm.MethodName)) ∈ lw_all := lw_g (lw_at lw_m3 138 rfl) rfl
theorem q738 : (Jvm.Cond.methodLink "NoteImporter$Anchor" (25 : Nat) ({ cls := "NoteImporter$Alignment", name := "count", desc := "(II)I" } : Jvm.MethodName)) ∈ lw_all := lw_g (lw_at lw_m3 139 rfl) rfl
theorem q742 : (Jvm.Cond.methodLink "NoteImporter$Anchor" (34 : Nat) ({ cls := "NoteImporter$Anchor", name := "span", desc := "(LNoteImporter$Note;LNoteImporter$Alignment;)V" } : Jvm.MethodName)) ∈ lw_all := lw_g (lw_at lw_m3 143 rfl) rfl
theorem q743 : (Jvm.Cond.privateMethod ({ cls := "NoteImporter$Anchor", name := "span", desc := "(LNoteImporter$Note;LNoteImporter$Alignment;)V" } : Jvm.MethodName)) ∈ lw_tbl := lw_at lw_m3 144 rfl
theorem q744 : (Jvm.Cond.instanceMethod ({ cls := "NoteImporter$Anchor", name := "span", desc := "(LNoteImporter$Note;LNoteImporter$Alignment;)V" } : Jvm.MethodName)) ∈ lw_all := lw_g (lw_at lw_m3 145 rfl) rfl
theorem q745 : (Jvm.Cond.code ({ cls := "NoteImporter$Anchor", name := "span", desc := "(LNoteImporter$Note;LNoteImporter$Alignment;)V" } : Jvm.MethodName) prog_3_method_2_code (5 : Nat) (Option.none : Option Jvm.ClassFile.FieldType)) ∈ lw_all := lw_g (lw_at lw_m3 146 rfl) rfl
theorem q746 : (Jvm.Cond.methodLink "NoteImporter$Anchor" (38 : Nat) ({ cls := "NoteImporter$Alignment", name := "count", desc := "()I" } : Jvm.MethodName)) ∈ lw_all := lw_g (lw_at lw_m3 147 rfl) rfl
theorem q751 : (Jvm.Cond.methodLink "NoteImporter$Anchor" (41 : Nat) ({ cls := "NoteImporter$Anchor", name := "near", desc := "(LNoteImporter$Note;LNoteImporter$Alignment;)V" } : Jvm.MethodName)) ∈ lw_all := lw_g (lw_at lw_m3 152 rfl) rfl
theorem q752 : (Jvm.Cond.privateMethod ({ cls := "NoteImporter$Anchor", name := "near", desc := "(LNoteImporter$Note;LNoteImporter$Alignment;)V" } : Jvm.MethodName)) ∈ lw_tbl := lw_at lw_m3 153 rfl
theorem q753 : (Jvm.Cond.instanceMethod ({ cls := "NoteImporter$Anchor", name := "near", desc := "(LNoteImporter$Note;LNoteImporter$Alignment;)V" } : Jvm.MethodName)) ∈ lw_all := lw_g (lw_at lw_m3 154 rfl) rfl
theorem q754 : (Jvm.Cond.code ({ cls := "NoteImporter$Anchor", name := "near", desc := "(LNoteImporter$Note;LNoteImporter$Alignment;)V" } : Jvm.MethodName) prog_3_method_3_code (7 : Nat) (Option.none : Option Jvm.ClassFile.FieldType)) ∈ lw_all := lw_g (lw_at lw_m3 155 rfl) rfl
theorem q755 : (Jvm.Cond.methodLink "NoteImporter$Anchor" (48 : Nat) ({ cls := "java/lang/Math", name := "max", desc := "(II)I" } : Jvm.MethodName)) ∈ lw_all := lw_g (lw_at lw_m3 156 rfl) rfl
theorem q756 : (Jvm.Cond.fieldLink "NoteImporter$Anchor" (9 : Nat) "NoteImporter$Anchor" "state" "I") ∈ lw_all := lw_g (lw_at lw_m3 157 rfl) rfl
theorem q760 : (Jvm.Cond.fieldLink "NoteImporter$Anchor" (15 : Nat) "NoteImporter$Anchor" "first" "I") ∈ lw_all := lw_g (lw_at lw_m3 161 rfl) rfl
theorem q763 : (Jvm.Cond.fieldLink "NoteImporter$Anchor" (18 : Nat) "NoteImporter$Anchor" "last" "I") ∈ lw_all := lw_g (lw_at lw_m3 164 rfl) rfl
theorem q766 : (Jvm.Cond.fieldLink "NoteImporter$Anchor" (31 : Nat) "NoteImporter$Anchor" "matched" "I") ∈ lw_all := lw_g (lw_at lw_m3 167 rfl) rfl
theorem q768 : (Jvm.Cond.lays "NoteImporter$Anchor" "NoteImporter$Anchor" "state" "I") ∈ lw_all := lw_g (lw_at lw_m3 169 rfl) rfl
theorem q769 : (Jvm.Cond.soleField "NoteImporter$Anchor" "state") ∈ lw_all := lw_g (lw_at lw_m3 170 rfl) rfl
theorem q770 : (Jvm.Cond.lays "NoteImporter$Anchor" "NoteImporter$Anchor" "first" "I") ∈ lw_all := lw_g (lw_at lw_m3 171 rfl) rfl
theorem q771 : (Jvm.Cond.soleField "NoteImporter$Anchor" "first") ∈ lw_all := lw_g (lw_at lw_m3 172 rfl) rfl
theorem q772 : (Jvm.Cond.lays "NoteImporter$Anchor" "NoteImporter$Anchor" "last" "I") ∈ lw_all := lw_g (lw_at lw_m3 173 rfl) rfl
theorem q773 : (Jvm.Cond.soleField "NoteImporter$Anchor" "last") ∈ lw_all := lw_g (lw_at lw_m3 174 rfl) rfl
theorem q774 : (Jvm.Cond.laysFinal "NoteImporter$Anchor" "NoteImporter$Anchor" "matched" "I") ∈ lw_all := lw_g (lw_at lw_m3 175 rfl) rfl
theorem q775 : (Jvm.Cond.soleField "NoteImporter$Anchor" "matched") ∈ lw_all := lw_g (lw_at lw_m3 176 rfl) rfl
theorem q776 : (Jvm.Cond.superclass "NoteImporter$Anchor" "java/lang/Object") ∈ lw_all := lw_g (lw_at lw_m3 177 rfl) rfl
theorem q846 : (Jvm.Cond.selects "NoteImporter$Anchor" ({ cls := "java/lang/Object", name := "getClass", desc := "()Ljava/lang/Class;" } : Jvm.MethodName) ({ cls := "java/lang/Object", name := "getClass", desc := "()Ljava/lang/Class;" } : Jvm.MethodName)) ∈ lw_all := lw_g (lw_at lw_m4 7 rfl) rfl
theorem q922 : (Jvm.Cond.instanceMethod ({ cls := "NoteImporter$Anchor", name := "shared", desc := "(LNoteImporter$Anchor;)I" } : Jvm.MethodName)) ∈ lw_all := lw_g (lw_at lw_m4 83 rfl) rfl
theorem q923 : (Jvm.Cond.selects "NoteImporter$Anchor" ({ cls := "NoteImporter$Anchor", name := "shared", desc := "(LNoteImporter$Anchor;)I" } : Jvm.MethodName) ({ cls := "NoteImporter$Anchor", name := "shared", desc := "(LNoteImporter$Anchor;)I" } : Jvm.MethodName)) ∈ lw_all := lw_g (lw_at lw_m4 84 rfl) rfl
theorem q924 : (Jvm.Cond.code ({ cls := "NoteImporter$Anchor", name := "shared", desc := "(LNoteImporter$Anchor;)I" } : Jvm.MethodName) prog_3_method_6_code (2 : Nat) (Option.some Jvm.ClassFile.FieldType.int)) ∈ lw_all := lw_g (lw_at lw_m4 85 rfl) rfl
theorem q925 : (Jvm.Cond.methodLink "NoteImporter$Anchor" (57 : Nat) ({ cls := "java/lang/Math", name := "min", desc := "(II)I" } : Jvm.MethodName)) ∈ lw_all := lw_g (lw_at lw_m4 86 rfl) rfl
theorem q927 : (Jvm.Cond.instanceMethod ({ cls := "NoteImporter$Anchor", name := "length", desc := "()I" } : Jvm.MethodName)) ∈ lw_all := lw_g (lw_at lw_m4 88 rfl) rfl
theorem q928 : (Jvm.Cond.selects "NoteImporter$Anchor" ({ cls := "NoteImporter$Anchor", name := "length", desc := "()I" } : Jvm.MethodName) ({ cls := "NoteImporter$Anchor", name := "length", desc := "()I" } : Jvm.MethodName)) ∈ lw_all := lw_g (lw_at lw_m4 89 rfl) rfl
theorem q929 : (Jvm.Cond.code ({ cls := "NoteImporter$Anchor", name := "length", desc := "()I" } : Jvm.MethodName) prog_3_method_5_code (1 : Nat) (Option.some Jvm.ClassFile.FieldType.int)) ∈ lw_all := lw_g (lw_at lw_m4 90 rfl) rfl
theorem q1181 : (Jvm.Cond.selects "NoteImporter$Anchor" ({ cls := "java/lang/Object", name := "hashCode", desc := "()I" } : Jvm.MethodName) ({ cls := "java/lang/Object", name := "hashCode", desc := "()I" } : Jvm.MethodName)) ∈ lw_all := lw_g (lw_at lw_m5 102 rfl) rfl
theorem q1286 : (Jvm.Cond.selects "NoteImporter$Anchor" ({ cls := "java/lang/Object", name := "equals", desc := "(Ljava/lang/Object;)Z" } : Jvm.MethodName) ({ cls := "java/lang/Object", name := "equals", desc := "(Ljava/lang/Object;)Z" } : Jvm.MethodName)) ∈ lw_all := lw_g (lw_at lw_m5 207 rfl) rfl
theorem q1674 : (Jvm.Cond.instanceMethod ({ cls := "NoteImporter$Anchor", name := "has", desc := "(I)Z" } : Jvm.MethodName)) ∈ lw_all := lw_g (lw_at lw_m7 115 rfl) rfl
theorem q1675 : (Jvm.Cond.selects "NoteImporter$Anchor" ({ cls := "NoteImporter$Anchor", name := "has", desc := "(I)Z" } : Jvm.MethodName) ({ cls := "NoteImporter$Anchor", name := "has", desc := "(I)Z" } : Jvm.MethodName)) ∈ lw_all := lw_g (lw_at lw_m7 116 rfl) rfl
theorem q1676 : (Jvm.Cond.code ({ cls := "NoteImporter$Anchor", name := "has", desc := "(I)Z" } : Jvm.MethodName) prog_3_method_4_code (2 : Nat) (Option.some Jvm.ClassFile.FieldType.boolean)) ∈ lw_all := lw_g (lw_at lw_m7 117 rfl) rfl
theorem q1677 : (Jvm.Cond.methodLinkNest "NoteImporter$Anchor" (53 : Nat) ({ cls := "NoteImporter", name := "isBetween", desc := "(JJJ)Z" } : Jvm.MethodName) "NoteImporter") ∈ lw_tbl := lw_at lw_m7 118 rfl
theorem q2309 : (Jvm.Cond.fieldLinkNest "NoteImporter$Anchor" (21 : Nat) "NoteImporter$Note" "first" "I" "NoteImporter") ∈ lw_tbl := lw_at lw_m10 30 rfl
theorem q2312 : (Jvm.Cond.fieldLinkNest "NoteImporter$Anchor" (24 : Nat) "NoteImporter$Note" "last" "I" "NoteImporter") ∈ lw_tbl := lw_at lw_m10 33 rfl
theorem q3792 : (Jvm.Cond.castable "NoteImporter$Anchor" "java/lang/Object") ∈ lw_tbl := lw_at lw_m16 73 rfl
theorem in_X12 : ∀ w ∈ wsX120, w ∈ lw_all := lw_in wsX120 [768, 770, 772, 774] (by decide +kernel) (by decide +kernel)

/-! NoteImporter$Group -/
set_option maxRecDepth 100000
def RX13 : String := "NoteImporter$Group"
def TX13 : u_T := fun k => match k with
  | 0 => ("NoteImporter$Group", "number", "I", true)
  | 1 => ("NoteImporter$Group", "notes", "Ljava/util/ArrayList;", true)
  | 2 => ("NoteImporter$Group", "readers", "I", false)
  | 3 => ("NoteImporter$Group", "first", "I", false)
  | 4 => ("NoteImporter$Group", "last", "I", false)
  | _ => ("NoteImporter$Group", "text", "I", false)
def tyX13 : Nat → FieldType := fun k => match k with
  | 0 => .int
  | 1 => .object "java/util/ArrayList"
  | 2 => .int
  | 3 => .int
  | 4 => .int
  | _ => .int
abbrev wsX130 : List Cond := u_ws RX13 TX13 6
theorem nmX13 : ∀ a, a < 6 → ∀ b, b < 6 → a ≠ b → (TX13 a).2.1 ≠ (TX13 b).2.1 := by decide +kernel
theorem tyX13_ok : ∀ k, k < 6 → parseFieldDescriptor (TX13 k).2.2.1 = some (tyX13 k) := by decide +kernel
abbrev cX13_init : ByteArray := prog_7_method_1_code
def yX13_init : MethodName := ⟨RX13, "<init>", "(II)V"⟩
def dkwX13_init_1 : List UInt8 := [181, 0, 24, 42, 27, 181, 0, 27, 42, 28, 181, 0, 30, 177]
abbrev dktX13_init_1 : List UInt8 := dkwX13_init_1 ++ []
def dkwX13_init_0 : List UInt8 := [42, 183, 0, 3, 42, 187, 0, 9, 89, 5, 183, 0, 11, 181, 0, 14, 42, 2, 181, 0, 20, 42, 2]
abbrev dktX13_init_0 : List UInt8 := dkwX13_init_0 ++ dktX13_init_1
theorem dksX13_init_0 : cX13_init.data.toList.drop 0 = dktX13_init_0 := by decide +kernel
theorem dksX13_init_1 : cX13_init.data.toList.drop 23 = dktX13_init_1 := dk_seg dksX13_init_0 23 rfl rfl
theorem dX13_init_0 : decode cX13_init 0 = .ok (.aload_n 0, 1) := dk_42 (dk_at dksX13_init_0 0 rfl rfl)
theorem dX13_init_1 : decode cX13_init 1 = .ok (.invokespecial 3, 3) := dk_183 0 3 (dk_at dksX13_init_0 1 rfl rfl)
theorem dX13_init_4 : decode cX13_init 4 = .ok (.aload_n 0, 1) := dk_42 (dk_at dksX13_init_0 4 rfl rfl)
theorem dX13_init_5 : decode cX13_init 5 = .ok (.new 9, 3) := dk_187 0 9 (dk_at dksX13_init_0 5 rfl rfl)
theorem dX13_init_8 : decode cX13_init 8 = .ok (.dup, 1) := dk_89 (dk_at dksX13_init_0 8 rfl rfl)
theorem dX13_init_9 : decode cX13_init 9 = .ok (.iconst 2, 1) := dk_5 (dk_at dksX13_init_0 9 rfl rfl)
theorem dX13_init_10 : decode cX13_init 10 = .ok (.invokespecial 11, 3) := dk_183 0 11 (dk_at dksX13_init_0 10 rfl rfl)
theorem dX13_init_13 : decode cX13_init 13 = .ok (.putfield 14, 3) := dk_181 0 14 (dk_at dksX13_init_0 13 rfl rfl)
theorem dX13_init_16 : decode cX13_init 16 = .ok (.aload_n 0, 1) := dk_42 (dk_at dksX13_init_0 16 rfl rfl)
theorem dX13_init_17 : decode cX13_init 17 = .ok (.iconst (-1), 1) := dk_2 (dk_at dksX13_init_0 17 rfl rfl)
theorem dX13_init_18 : decode cX13_init 18 = .ok (.putfield 20, 3) := dk_181 0 20 (dk_at dksX13_init_0 18 rfl rfl)
theorem dX13_init_21 : decode cX13_init 21 = .ok (.aload_n 0, 1) := dk_42 (dk_at dksX13_init_0 21 rfl rfl)
theorem dX13_init_22 : decode cX13_init 22 = .ok (.iconst (-1), 1) := dk_2 (dk_at dksX13_init_0 22 rfl rfl)
theorem dX13_init_23 : decode cX13_init 23 = .ok (.putfield 24, 3) := dk_181 0 24 (dk_at dksX13_init_1 0 rfl rfl)
theorem dX13_init_26 : decode cX13_init 26 = .ok (.aload_n 0, 1) := dk_42 (dk_at dksX13_init_1 3 rfl rfl)
theorem dX13_init_27 : decode cX13_init 27 = .ok (.iload_n 1, 1) := dk_27 (dk_at dksX13_init_1 4 rfl rfl)
theorem dX13_init_28 : decode cX13_init 28 = .ok (.putfield 27, 3) := dk_181 0 27 (dk_at dksX13_init_1 5 rfl rfl)
theorem dX13_init_31 : decode cX13_init 31 = .ok (.aload_n 0, 1) := dk_42 (dk_at dksX13_init_1 8 rfl rfl)
theorem dX13_init_32 : decode cX13_init 32 = .ok (.iload_n 2, 1) := dk_28 (dk_at dksX13_init_1 9 rfl rfl)
theorem dX13_init_33 : decode cX13_init 33 = .ok (.putfield 30, 3) := dk_181 0 30 (dk_at dksX13_init_1 10 rfl rfl)
theorem dX13_init_36 : decode cX13_init 36 = .ok (.return_, 1) := dk_177 (dk_at dksX13_init_1 13 rfl rfl)
abbrev cX13_add : ByteArray := prog_7_method_2_code
def yX13_add : MethodName := ⟨RX13, "add", "(ILNoteImporter$Note;LNoteImporter$Anchor;I)V"⟩
def dkwX13_add_4 : List UInt8 := [180, 0, 70, 184, 0, 71, 181, 0, 24, 177]
abbrev dktX13_add_4 : List UInt8 := dkwX13_add_4 ++ []
def dkwX13_add_3 : List UInt8 := [167, 0, 14, 42, 180, 0, 20, 45, 180, 0, 63, 184, 0, 64, 181, 0, 20, 42, 42, 180, 0, 24, 45]
abbrev dktX13_add_3 : List UInt8 := dkwX13_add_3 ++ dktX13_add_4
def dkwX13_add_2 : List UInt8 := [181, 0, 30, 45, 180, 0, 58, 6, 159, 0, 48, 42, 42, 180, 0, 20, 2, 160, 0, 10, 45, 180, 0, 63]
abbrev dktX13_add_2 : List UInt8 := dkwX13_add_2 ++ dktX13_add_3
def dkwX13_add_1 : List UInt8 := [181, 0, 43, 42, 44, 180, 0, 51, 182, 0, 54, 21, 4, 164, 0, 7, 27, 167, 0, 7, 42, 180, 0, 30]
abbrev dktX13_add_1 : List UInt8 := dkwX13_add_1 ++ dktX13_add_2
def dkwX13_add_0 : List UInt8 := [42, 180, 0, 14, 27, 184, 0, 33, 182, 0, 39, 87, 42, 89, 180, 0, 43, 4, 44, 180, 0, 46, 120, 128]
abbrev dktX13_add_0 : List UInt8 := dkwX13_add_0 ++ dktX13_add_1
theorem dksX13_add_0 : cX13_add.data.toList.drop 0 = dktX13_add_0 := by decide +kernel
theorem dksX13_add_1 : cX13_add.data.toList.drop 24 = dktX13_add_1 := dk_seg dksX13_add_0 24 rfl rfl
theorem dksX13_add_2 : cX13_add.data.toList.drop 48 = dktX13_add_2 := dk_seg dksX13_add_1 24 rfl rfl
theorem dksX13_add_3 : cX13_add.data.toList.drop 72 = dktX13_add_3 := dk_seg dksX13_add_2 24 rfl rfl
theorem dksX13_add_4 : cX13_add.data.toList.drop 95 = dktX13_add_4 := dk_seg dksX13_add_3 23 rfl rfl
theorem dX13_add_0 : decode cX13_add 0 = .ok (.aload_n 0, 1) := dk_42 (dk_at dksX13_add_0 0 rfl rfl)
theorem dX13_add_1 : decode cX13_add 1 = .ok (.getfield 14, 3) := dk_180 0 14 (dk_at dksX13_add_0 1 rfl rfl)
theorem dX13_add_4 : decode cX13_add 4 = .ok (.iload_n 1, 1) := dk_27 (dk_at dksX13_add_0 4 rfl rfl)
theorem dX13_add_5 : decode cX13_add 5 = .ok (.invokestatic 33, 3) := dk_184 0 33 (dk_at dksX13_add_0 5 rfl rfl)
theorem dX13_add_8 : decode cX13_add 8 = .ok (.invokevirtual 39, 3) := dk_182 0 39 (dk_at dksX13_add_0 8 rfl rfl)
theorem dX13_add_11 : decode cX13_add 11 = .ok (.pop, 1) := dk_87 (dk_at dksX13_add_0 11 rfl rfl)
theorem dX13_add_12 : decode cX13_add 12 = .ok (.aload_n 0, 1) := dk_42 (dk_at dksX13_add_0 12 rfl rfl)
theorem dX13_add_13 : decode cX13_add 13 = .ok (.dup, 1) := dk_89 (dk_at dksX13_add_0 13 rfl rfl)
theorem dX13_add_14 : decode cX13_add 14 = .ok (.getfield 43, 3) := dk_180 0 43 (dk_at dksX13_add_0 14 rfl rfl)
theorem dX13_add_17 : decode cX13_add 17 = .ok (.iconst 1, 1) := dk_4 (dk_at dksX13_add_0 17 rfl rfl)
theorem dX13_add_18 : decode cX13_add 18 = .ok (.aload_n 2, 1) := dk_44 (dk_at dksX13_add_0 18 rfl rfl)
theorem dX13_add_19 : decode cX13_add 19 = .ok (.getfield 46, 3) := dk_180 0 46 (dk_at dksX13_add_0 19 rfl rfl)
theorem dX13_add_22 : decode cX13_add 22 = .ok (.ishl, 1) := dk_120 (dk_at dksX13_add_0 22 rfl rfl)
theorem dX13_add_23 : decode cX13_add 23 = .ok (.ior, 1) := dk_128 (dk_at dksX13_add_0 23 rfl rfl)
theorem dX13_add_24 : decode cX13_add 24 = .ok (.putfield 43, 3) := dk_181 0 43 (dk_at dksX13_add_1 0 rfl rfl)
theorem dX13_add_27 : decode cX13_add 27 = .ok (.aload_n 0, 1) := dk_42 (dk_at dksX13_add_1 3 rfl rfl)
theorem dX13_add_28 : decode cX13_add 28 = .ok (.aload_n 2, 1) := dk_44 (dk_at dksX13_add_1 4 rfl rfl)
theorem dX13_add_29 : decode cX13_add 29 = .ok (.getfield 51, 3) := dk_180 0 51 (dk_at dksX13_add_1 5 rfl rfl)
theorem dX13_add_32 : decode cX13_add 32 = .ok (.invokevirtual 54, 3) := dk_182 0 54 (dk_at dksX13_add_1 8 rfl rfl)
theorem dX13_add_35 : decode cX13_add 35 = .ok (.iload 4, 2) := dk_21 4 (dk_at dksX13_add_1 11 rfl rfl)
theorem dX13_add_37 : decode cX13_add 37 = .ok (.if_icmp .le 7, 3) := dk_164 0 7 (dk_at dksX13_add_1 13 rfl rfl)
theorem dX13_add_40 : decode cX13_add 40 = .ok (.iload_n 1, 1) := dk_27 (dk_at dksX13_add_1 16 rfl rfl)
theorem dX13_add_41 : decode cX13_add 41 = .ok (.goto 7, 3) := dk_167 0 7 (dk_at dksX13_add_1 17 rfl rfl)
theorem dX13_add_44 : decode cX13_add 44 = .ok (.aload_n 0, 1) := dk_42 (dk_at dksX13_add_1 20 rfl rfl)
theorem dX13_add_45 : decode cX13_add 45 = .ok (.getfield 30, 3) := dk_180 0 30 (dk_at dksX13_add_1 21 rfl rfl)
theorem dX13_add_48 : decode cX13_add 48 = .ok (.putfield 30, 3) := dk_181 0 30 (dk_at dksX13_add_2 0 rfl rfl)
theorem dX13_add_51 : decode cX13_add 51 = .ok (.aload_n 3, 1) := dk_45 (dk_at dksX13_add_2 3 rfl rfl)
theorem dX13_add_52 : decode cX13_add 52 = .ok (.getfield 58, 3) := dk_180 0 58 (dk_at dksX13_add_2 4 rfl rfl)
theorem dX13_add_55 : decode cX13_add 55 = .ok (.iconst 3, 1) := dk_6 (dk_at dksX13_add_2 7 rfl rfl)
theorem dX13_add_56 : decode cX13_add 56 = .ok (.if_icmp .eq 48, 3) := dk_159 0 48 (dk_at dksX13_add_2 8 rfl rfl)
theorem dX13_add_59 : decode cX13_add 59 = .ok (.aload_n 0, 1) := dk_42 (dk_at dksX13_add_2 11 rfl rfl)
theorem dX13_add_60 : decode cX13_add 60 = .ok (.aload_n 0, 1) := dk_42 (dk_at dksX13_add_2 12 rfl rfl)
theorem dX13_add_61 : decode cX13_add 61 = .ok (.getfield 20, 3) := dk_180 0 20 (dk_at dksX13_add_2 13 rfl rfl)
theorem dX13_add_64 : decode cX13_add 64 = .ok (.iconst (-1), 1) := dk_2 (dk_at dksX13_add_2 16 rfl rfl)
theorem dX13_add_65 : decode cX13_add 65 = .ok (.if_icmp .ne 10, 3) := dk_160 0 10 (dk_at dksX13_add_2 17 rfl rfl)
theorem dX13_add_68 : decode cX13_add 68 = .ok (.aload_n 3, 1) := dk_45 (dk_at dksX13_add_2 20 rfl rfl)
theorem dX13_add_69 : decode cX13_add 69 = .ok (.getfield 63, 3) := dk_180 0 63 (dk_at dksX13_add_2 21 rfl rfl)
theorem dX13_add_72 : decode cX13_add 72 = .ok (.goto 14, 3) := dk_167 0 14 (dk_at dksX13_add_3 0 rfl rfl)
theorem dX13_add_75 : decode cX13_add 75 = .ok (.aload_n 0, 1) := dk_42 (dk_at dksX13_add_3 3 rfl rfl)
theorem dX13_add_76 : decode cX13_add 76 = .ok (.getfield 20, 3) := dk_180 0 20 (dk_at dksX13_add_3 4 rfl rfl)
theorem dX13_add_79 : decode cX13_add 79 = .ok (.aload_n 3, 1) := dk_45 (dk_at dksX13_add_3 7 rfl rfl)
theorem dX13_add_80 : decode cX13_add 80 = .ok (.getfield 63, 3) := dk_180 0 63 (dk_at dksX13_add_3 8 rfl rfl)
theorem dX13_add_83 : decode cX13_add 83 = .ok (.invokestatic 64, 3) := dk_184 0 64 (dk_at dksX13_add_3 11 rfl rfl)
theorem dX13_add_86 : decode cX13_add 86 = .ok (.putfield 20, 3) := dk_181 0 20 (dk_at dksX13_add_3 14 rfl rfl)
theorem dX13_add_89 : decode cX13_add 89 = .ok (.aload_n 0, 1) := dk_42 (dk_at dksX13_add_3 17 rfl rfl)
theorem dX13_add_90 : decode cX13_add 90 = .ok (.aload_n 0, 1) := dk_42 (dk_at dksX13_add_3 18 rfl rfl)
theorem dX13_add_91 : decode cX13_add 91 = .ok (.getfield 24, 3) := dk_180 0 24 (dk_at dksX13_add_3 19 rfl rfl)
theorem dX13_add_94 : decode cX13_add 94 = .ok (.aload_n 3, 1) := dk_45 (dk_at dksX13_add_3 22 rfl rfl)
theorem dX13_add_95 : decode cX13_add 95 = .ok (.getfield 70, 3) := dk_180 0 70 (dk_at dksX13_add_4 0 rfl rfl)
theorem dX13_add_98 : decode cX13_add 98 = .ok (.invokestatic 71, 3) := dk_184 0 71 (dk_at dksX13_add_4 3 rfl rfl)
theorem dX13_add_101 : decode cX13_add 101 = .ok (.putfield 24, 3) := dk_181 0 24 (dk_at dksX13_add_4 6 rfl rfl)
theorem dX13_add_104 : decode cX13_add 104 = .ok (.return_, 1) := dk_177 (dk_at dksX13_add_4 9 rfl rfl)
abbrev cX13_readerCount : ByteArray := prog_7_method_3_code
def yX13_readerCount : MethodName := ⟨RX13, "readerCount", "()I"⟩
def dkwX13_readerCount_1 : List UInt8 := [172]
abbrev dktX13_readerCount_1 : List UInt8 := dkwX13_readerCount_1 ++ []
def dkwX13_readerCount_0 : List UInt8 := [3, 60, 42, 180, 0, 43, 61, 28, 153, 0, 15, 132, 1, 1, 28, 28, 4, 100, 126, 61, 167, 255, 243, 27]
abbrev dktX13_readerCount_0 : List UInt8 := dkwX13_readerCount_0 ++ dktX13_readerCount_1
theorem dksX13_readerCount_0 : cX13_readerCount.data.toList.drop 0 = dktX13_readerCount_0 := by decide +kernel
theorem dksX13_readerCount_1 : cX13_readerCount.data.toList.drop 24 = dktX13_readerCount_1 := dk_seg dksX13_readerCount_0 24 rfl rfl
theorem dX13_readerCount_0 : decode cX13_readerCount 0 = .ok (.iconst 0, 1) := dk_3 (dk_at dksX13_readerCount_0 0 rfl rfl)
theorem dX13_readerCount_1 : decode cX13_readerCount 1 = .ok (.istore_n 1, 1) := dk_60 (dk_at dksX13_readerCount_0 1 rfl rfl)
theorem dX13_readerCount_2 : decode cX13_readerCount 2 = .ok (.aload_n 0, 1) := dk_42 (dk_at dksX13_readerCount_0 2 rfl rfl)
theorem dX13_readerCount_3 : decode cX13_readerCount 3 = .ok (.getfield 43, 3) := dk_180 0 43 (dk_at dksX13_readerCount_0 3 rfl rfl)
theorem dX13_readerCount_6 : decode cX13_readerCount 6 = .ok (.istore_n 2, 1) := dk_61 (dk_at dksX13_readerCount_0 6 rfl rfl)
theorem dX13_readerCount_7 : decode cX13_readerCount 7 = .ok (.iload_n 2, 1) := dk_28 (dk_at dksX13_readerCount_0 7 rfl rfl)
theorem dX13_readerCount_8 : decode cX13_readerCount 8 = .ok (.ifCond .eq 15, 3) := dk_153 0 15 (dk_at dksX13_readerCount_0 8 rfl rfl)
theorem dX13_readerCount_11 : decode cX13_readerCount 11 = .ok (.iinc 1 1, 3) := dk_132 1 1 (dk_at dksX13_readerCount_0 11 rfl rfl)
theorem dX13_readerCount_14 : decode cX13_readerCount 14 = .ok (.iload_n 2, 1) := dk_28 (dk_at dksX13_readerCount_0 14 rfl rfl)
theorem dX13_readerCount_15 : decode cX13_readerCount 15 = .ok (.iload_n 2, 1) := dk_28 (dk_at dksX13_readerCount_0 15 rfl rfl)
theorem dX13_readerCount_16 : decode cX13_readerCount 16 = .ok (.iconst 1, 1) := dk_4 (dk_at dksX13_readerCount_0 16 rfl rfl)
theorem dX13_readerCount_17 : decode cX13_readerCount 17 = .ok (.isub, 1) := dk_100 (dk_at dksX13_readerCount_0 17 rfl rfl)
theorem dX13_readerCount_18 : decode cX13_readerCount 18 = .ok (.iand, 1) := dk_126 (dk_at dksX13_readerCount_0 18 rfl rfl)
theorem dX13_readerCount_19 : decode cX13_readerCount 19 = .ok (.istore_n 2, 1) := dk_61 (dk_at dksX13_readerCount_0 19 rfl rfl)
theorem dX13_readerCount_20 : decode cX13_readerCount 20 = .ok (.goto (-13), 3) := dk_167 255 243 (dk_at dksX13_readerCount_0 20 rfl rfl)
theorem dX13_readerCount_23 : decode cX13_readerCount 23 = .ok (.iload_n 1, 1) := dk_27 (dk_at dksX13_readerCount_0 23 rfl rfl)
theorem dX13_readerCount_24 : decode cX13_readerCount 24 = .ok (.ireturn, 1) := dk_172 (dk_at dksX13_readerCount_1 0 rfl rfl)
theorem q180 : (Jvm.Cond.initialized "NoteImporter$Group") ∈ lw_all := lw_g (lw_at lw_m1 61 rfl) rfl
theorem q757 : (Jvm.Cond.fieldLinkNest "NoteImporter$Group" (58 : Nat) "NoteImporter$Anchor" "state" "I" "NoteImporter") ∈ lw_tbl := lw_at lw_m3 158 rfl
theorem q761 : (Jvm.Cond.fieldLinkNest "NoteImporter$Group" (63 : Nat) "NoteImporter$Anchor" "first" "I" "NoteImporter") ∈ lw_tbl := lw_at lw_m3 162 rfl
theorem q764 : (Jvm.Cond.fieldLinkNest "NoteImporter$Group" (70 : Nat) "NoteImporter$Anchor" "last" "I" "NoteImporter") ∈ lw_tbl := lw_at lw_m3 165 rfl
theorem q782 : (Jvm.Cond.instantiable "NoteImporter$Group" (6 : Nat)) ∈ lw_all := lw_g (lw_at lw_m3 183 rfl) rfl
theorem q784 : (Jvm.Cond.instanceMethod ({ cls := "NoteImporter$Group", name := "<init>", desc := "(II)V" } : Jvm.MethodName)) ∈ lw_all := lw_g (lw_at lw_m3 185 rfl) rfl
theorem q785 : (Jvm.Cond.code ({ cls := "NoteImporter$Group", name := "<init>", desc := "(II)V" } : Jvm.MethodName) prog_7_method_1_code (3 : Nat) (Option.none : Option Jvm.ClassFile.FieldType)) ∈ lw_all := lw_g (lw_at lw_m3 186 rfl) rfl
theorem q786 : (Jvm.Cond.methodLink "NoteImporter$Group" (3 : Nat) ({ cls := "java/lang/Object", name := "<init>", desc := "()V" } : Jvm.MethodName)) ∈ lw_all := lw_g (lw_at lw_m3 187 rfl) rfl
theorem q787 : (Jvm.Cond.classLink "NoteImporter$Group" (9 : Nat) "java/util/ArrayList") ∈ lw_all := lw_g (lw_at lw_m3 188 rfl) rfl
theorem q788 : (Jvm.Cond.methodLink "NoteImporter$Group" (11 : Nat) ({ cls := "java/util/ArrayList", name := "<init>", desc := "(I)V" } : Jvm.MethodName)) ∈ lw_all := lw_g (lw_at lw_m3 189 rfl) rfl
theorem q789 : (Jvm.Cond.fieldLink "NoteImporter$Group" (27 : Nat) "NoteImporter$Group" "number" "I") ∈ lw_all := lw_g (lw_at lw_m3 190 rfl) rfl
theorem q793 : (Jvm.Cond.fieldLink "NoteImporter$Group" (14 : Nat) "NoteImporter$Group" "notes" "Ljava/util/ArrayList;") ∈ lw_all := lw_g (lw_at lw_m3 194 rfl) rfl
theorem q795 : (Jvm.Cond.fieldLink "NoteImporter$Group" (43 : Nat) "NoteImporter$Group" "readers" "I") ∈ lw_all := lw_g (lw_at lw_m3 196 rfl) rfl
theorem q797 : (Jvm.Cond.fieldLink "NoteImporter$Group" (20 : Nat) "NoteImporter$Group" "first" "I") ∈ lw_all := lw_g (lw_at lw_m3 198 rfl) rfl
theorem q801 : (Jvm.Cond.fieldLink "NoteImporter$Group" (24 : Nat) "NoteImporter$Group" "last" "I") ∈ lw_all := lw_g (lw_at lw_m3 202 rfl) rfl
theorem q803 : (Jvm.Cond.fieldLink "NoteImporter$Group" (30 : Nat) "NoteImporter$Group" "text" "I") ∈ lw_all := lw_g (lw_at lw_m3 204 rfl) rfl
theorem q806 : (Jvm.Cond.laysFinal "NoteImporter$Group" "NoteImporter$Group" "number" "I") ∈ lw_all := lw_g (lw_at lw_m3 207 rfl) rfl
theorem q807 : (Jvm.Cond.soleField "NoteImporter$Group" "number") ∈ lw_all := lw_g (lw_at lw_m3 208 rfl) rfl
theorem q808 : (Jvm.Cond.laysFinal "NoteImporter$Group" "NoteImporter$Group" "notes" "Ljava/util/ArrayList;") ∈ lw_all := lw_g (lw_at lw_m3 209 rfl) rfl
theorem q809 : (Jvm.Cond.soleField "NoteImporter$Group" "notes") ∈ lw_all := lw_g (lw_at lw_m3 210 rfl) rfl
theorem q810 : (Jvm.Cond.lays "NoteImporter$Group" "NoteImporter$Group" "readers" "I") ∈ lw_all := lw_g (lw_at lw_m3 211 rfl) rfl
theorem q811 : (Jvm.Cond.soleField "NoteImporter$Group" "readers") ∈ lw_all := lw_g (lw_at lw_m3 212 rfl) rfl
theorem q812 : (Jvm.Cond.lays "NoteImporter$Group" "NoteImporter$Group" "first" "I") ∈ lw_all := lw_g (lw_at lw_m3 213 rfl) rfl
theorem q813 : (Jvm.Cond.soleField "NoteImporter$Group" "first") ∈ lw_all := lw_g (lw_at lw_m3 214 rfl) rfl
theorem q814 : (Jvm.Cond.lays "NoteImporter$Group" "NoteImporter$Group" "last" "I") ∈ lw_all := lw_g (lw_at lw_m3 215 rfl) rfl
theorem q815 : (Jvm.Cond.soleField "NoteImporter$Group" "last") ∈ lw_all := lw_g (lw_at lw_m3 216 rfl) rfl
theorem q816 : (Jvm.Cond.lays "NoteImporter$Group" "NoteImporter$Group" "text" "I") ∈ lw_all := lw_g (lw_at lw_m3 217 rfl) rfl
theorem q817 : (Jvm.Cond.soleField "NoteImporter$Group" "text") ∈ lw_all := lw_g (lw_at lw_m3 218 rfl) rfl
theorem q818 : (Jvm.Cond.superclass "NoteImporter$Group" "java/lang/Object") ∈ lw_all := lw_g (lw_at lw_m3 219 rfl) rfl
theorem q850 : (Jvm.Cond.selects "NoteImporter$Group" ({ cls := "java/lang/Object", name := "getClass", desc := "()Ljava/lang/Class;" } : Jvm.MethodName) ({ cls := "java/lang/Object", name := "getClass", desc := "()Ljava/lang/Class;" } : Jvm.MethodName)) ∈ lw_all := lw_g (lw_at lw_m4 11 rfl) rfl
theorem q1185 : (Jvm.Cond.selects "NoteImporter$Group" ({ cls := "java/lang/Object", name := "hashCode", desc := "()I" } : Jvm.MethodName) ({ cls := "java/lang/Object", name := "hashCode", desc := "()I" } : Jvm.MethodName)) ∈ lw_all := lw_g (lw_at lw_m5 106 rfl) rfl
theorem q1290 : (Jvm.Cond.selects "NoteImporter$Group" ({ cls := "java/lang/Object", name := "equals", desc := "(Ljava/lang/Object;)Z" } : Jvm.MethodName) ({ cls := "java/lang/Object", name := "equals", desc := "(Ljava/lang/Object;)Z" } : Jvm.MethodName)) ∈ lw_all := lw_g (lw_at lw_m5 211 rfl) rfl
theorem q1585 : (Jvm.Cond.instanceMethod ({ cls := "NoteImporter$Group", name := "add", desc := "(ILNoteImporter$Note;LNoteImporter$Anchor;I)V" } : Jvm.MethodName)) ∈ lw_all := lw_g (lw_at lw_m7 26 rfl) rfl
theorem q1586 : (Jvm.Cond.selects "NoteImporter$Group" ({ cls := "NoteImporter$Group", name := "add", desc := "(ILNoteImporter$Note;LNoteImporter$Anchor;I)V" } : Jvm.MethodName) ({ cls := "NoteImporter$Group", name := "add", desc := "(ILNoteImporter$Note;LNoteImporter$Anchor;I)V" } : Jvm.MethodName)) ∈ lw_all := lw_g (lw_at lw_m7 27 rfl) rfl
theorem q1587 : (Jvm.Cond.code ({ cls := "NoteImporter$Group", name := "add", desc := "(ILNoteImporter$Note;LNoteImporter$Anchor;I)V" } : Jvm.MethodName) prog_7_method_2_code (5 : Nat) (Option.none : Option Jvm.ClassFile.FieldType)) ∈ lw_all := lw_g (lw_at lw_m7 28 rfl) rfl
theorem q1588 : (Jvm.Cond.methodLink "NoteImporter$Group" (33 : Nat) ({ cls := "java/lang/Integer", name := "valueOf", desc := "(I)Ljava/lang/Integer;" } : Jvm.MethodName)) ∈ lw_all := lw_g (lw_at lw_m7 29 rfl) rfl
theorem q1589 : (Jvm.Cond.methodLink "NoteImporter$Group" (39 : Nat) ({ cls := "java/util/ArrayList", name := "add", desc := "(Ljava/lang/Object;)Z" } : Jvm.MethodName)) ∈ lw_all := lw_g (lw_at lw_m7 30 rfl) rfl
theorem q1590 : (Jvm.Cond.methodLink "NoteImporter$Group" (54 : Nat) ({ cls := "java/util/ArrayList", name := "size", desc := "()I" } : Jvm.MethodName)) ∈ lw_all := lw_g (lw_at lw_m7 31 rfl) rfl
theorem q1591 : (Jvm.Cond.methodLink "NoteImporter$Group" (64 : Nat) ({ cls := "java/lang/Math", name := "min", desc := "(II)I" } : Jvm.MethodName)) ∈ lw_all := lw_g (lw_at lw_m7 32 rfl) rfl
theorem q1592 : (Jvm.Cond.methodLink "NoteImporter$Group" (71 : Nat) ({ cls := "java/lang/Math", name := "max", desc := "(II)I" } : Jvm.MethodName)) ∈ lw_all := lw_g (lw_at lw_m7 33 rfl) rfl
theorem q1643 : (Jvm.Cond.instanceMethod ({ cls := "NoteImporter$Group", name := "readerCount", desc := "()I" } : Jvm.MethodName)) ∈ lw_all := lw_g (lw_at lw_m7 84 rfl) rfl
theorem q1644 : (Jvm.Cond.selects "NoteImporter$Group" ({ cls := "NoteImporter$Group", name := "readerCount", desc := "()I" } : Jvm.MethodName) ({ cls := "NoteImporter$Group", name := "readerCount", desc := "()I" } : Jvm.MethodName)) ∈ lw_all := lw_g (lw_at lw_m7 85 rfl) rfl
theorem q1645 : (Jvm.Cond.code ({ cls := "NoteImporter$Group", name := "readerCount", desc := "()I" } : Jvm.MethodName) prog_7_method_3_code (3 : Nat) (Option.some Jvm.ClassFile.FieldType.int)) ∈ lw_all := lw_g (lw_at lw_m7 86 rfl) rfl
theorem q2294 : (Jvm.Cond.fieldLinkNest "NoteImporter$Group" (46 : Nat) "NoteImporter$Note" "reader" "I" "NoteImporter") ∈ lw_tbl := lw_at lw_m10 15 rfl
theorem q2304 : (Jvm.Cond.fieldLinkNest "NoteImporter$Group" (51 : Nat) "NoteImporter$Note" "said" "Ljava/util/ArrayList;" "NoteImporter") ∈ lw_tbl := lw_at lw_m10 25 rfl
theorem q3818 : (Jvm.Cond.castable "NoteImporter$Group" "java/lang/Object") ∈ lw_tbl := lw_at lw_m16 99 rfl
theorem in_X13 : ∀ w ∈ wsX130, w ∈ lw_all := lw_in wsX130 [806, 808, 810, 812, 814, 816] (by decide +kernel) (by decide +kernel)

/-! NoteImporter$CountException -/
set_option maxRecDepth 100000
def RX14 : String := "NoteImporter$CountException"
def TX14 : u_T := fun k => match k with
  | 0 => ("java/lang/Throwable", "cause", "Ljava/lang/Throwable;", false)
  | 1 => ("java/lang/Throwable", "stackTrace", "[Ljava/lang/StackTraceElement;", false)
  | 2 => ("java/lang/Throwable", "suppressedExceptions", "Ljava/util/List;", false)
  | 3 => ("java/lang/Throwable", "detailMessage", "Ljava/lang/String;", false)
  | 4 => ("java/lang/Throwable", "backtrace", "Ljava/lang/Object;", false)
  | _ => ("java/lang/Throwable", "depth", "I", false)
def tyX14 : Nat → FieldType := fun k => match k with
  | 0 => .object "java/lang/Throwable"
  | 1 => .array (.object "java/lang/StackTraceElement")
  | 2 => .object "java/util/List"
  | 3 => .object "java/lang/String"
  | 4 => .object "java/lang/Object"
  | _ => .int
abbrev wsX140 : List Cond := u_ws RX14 TX14 6
theorem nmX14 : ∀ a, a < 6 → ∀ b, b < 6 → a ≠ b → (TX14 a).2.1 ≠ (TX14 b).2.1 := by decide +kernel
theorem tyX14_ok : ∀ k, k < 6 → parseFieldDescriptor (TX14 k).2.2.1 = some (tyX14 k) := by decide +kernel
abbrev cX14_init : ByteArray := prog_5_method_1_code
def yX14_init : MethodName := ⟨RX14, "<init>", "()V"⟩
def dkwX14_init_0 : List UInt8 := [42, 1, 1, 3, 3, 183, 0, 1, 177]
abbrev dktX14_init_0 : List UInt8 := dkwX14_init_0 ++ []
theorem dksX14_init_0 : cX14_init.data.toList.drop 0 = dktX14_init_0 := by decide +kernel
theorem dX14_init_0 : decode cX14_init 0 = .ok (.aload_n 0, 1) := dk_42 (dk_at dksX14_init_0 0 rfl rfl)
theorem dX14_init_1 : decode cX14_init 1 = .ok (.aconst_null, 1) := dk_1 (dk_at dksX14_init_0 1 rfl rfl)
theorem dX14_init_2 : decode cX14_init 2 = .ok (.aconst_null, 1) := dk_1 (dk_at dksX14_init_0 2 rfl rfl)
theorem dX14_init_3 : decode cX14_init 3 = .ok (.iconst 0, 1) := dk_3 (dk_at dksX14_init_0 3 rfl rfl)
theorem dX14_init_4 : decode cX14_init 4 = .ok (.iconst 0, 1) := dk_3 (dk_at dksX14_init_0 4 rfl rfl)
theorem dX14_init_5 : decode cX14_init 5 = .ok (.invokespecial 1, 3) := dk_183 0 1 (dk_at dksX14_init_0 5 rfl rfl)
theorem dX14_init_8 : decode cX14_init 8 = .ok (.return_, 1) := dk_177 (dk_at dksX14_init_0 8 rfl rfl)
theorem q184 : (Jvm.Cond.initialized "NoteImporter$CountException") ∈ lw_all := lw_g (lw_at lw_m1 65 rfl) rfl
theorem q249 : (Jvm.Cond.selects "NoteImporter$CountException" ({ cls := "java/lang/Throwable", name := "fillInStackTrace", desc := "()Ljava/lang/Throwable;" } : Jvm.MethodName) ({ cls := "java/lang/Throwable", name := "fillInStackTrace", desc := "()Ljava/lang/Throwable;" } : Jvm.MethodName)) ∈ lw_all := lw_g (lw_at lw_m1 130 rfl) rfl
theorem q848 : (Jvm.Cond.selects "NoteImporter$CountException" ({ cls := "java/lang/Object", name := "getClass", desc := "()Ljava/lang/Class;" } : Jvm.MethodName) ({ cls := "java/lang/Object", name := "getClass", desc := "()Ljava/lang/Class;" } : Jvm.MethodName)) ∈ lw_all := lw_g (lw_at lw_m4 9 rfl) rfl
theorem q1183 : (Jvm.Cond.selects "NoteImporter$CountException" ({ cls := "java/lang/Object", name := "hashCode", desc := "()I" } : Jvm.MethodName) ({ cls := "java/lang/Object", name := "hashCode", desc := "()I" } : Jvm.MethodName)) ∈ lw_all := lw_g (lw_at lw_m5 104 rfl) rfl
theorem q1288 : (Jvm.Cond.selects "NoteImporter$CountException" ({ cls := "java/lang/Object", name := "equals", desc := "(Ljava/lang/Object;)Z" } : Jvm.MethodName) ({ cls := "java/lang/Object", name := "equals", desc := "(Ljava/lang/Object;)Z" } : Jvm.MethodName)) ∈ lw_all := lw_g (lw_at lw_m5 209 rfl) rfl
theorem q2745 : (Jvm.Cond.instantiable "NoteImporter$CountException" (6 : Nat)) ∈ lw_all := lw_g (lw_at lw_m11 226 rfl) rfl
theorem q2746 : (Jvm.Cond.castable "NoteImporter$CountException" "NoteImporter$CountException") ∈ lw_tbl := lw_at lw_m11 227 rfl
theorem q2747 : (Jvm.Cond.selects "NoteImporter$CountException" ({ cls := "java/lang/Throwable", name := "fillInStackTrace", desc := "(I)Ljava/lang/Throwable;" } : Jvm.MethodName) ({ cls := "java/lang/Throwable", name := "fillInStackTrace", desc := "(I)Ljava/lang/Throwable;" } : Jvm.MethodName)) ∈ lw_all := lw_g (lw_at lw_m11 228 rfl) rfl
theorem q2748 : (Jvm.Cond.lays "NoteImporter$CountException" "java/lang/Throwable" "cause" "Ljava/lang/Throwable;") ∈ lw_all := lw_g (lw_at lw_m11 229 rfl) rfl
theorem q2749 : (Jvm.Cond.lays "NoteImporter$CountException" "java/lang/Throwable" "stackTrace" "[Ljava/lang/StackTraceElement;") ∈ lw_all := lw_g (lw_at lw_m11 230 rfl) rfl
theorem q2750 : (Jvm.Cond.lays "NoteImporter$CountException" "java/lang/Throwable" "suppressedExceptions" "Ljava/util/List;") ∈ lw_all := lw_g (lw_at lw_m11 231 rfl) rfl
theorem q2751 : (Jvm.Cond.lays "NoteImporter$CountException" "java/lang/Throwable" "detailMessage" "Ljava/lang/String;") ∈ lw_all := lw_g (lw_at lw_m11 232 rfl) rfl
theorem q2752 : (Jvm.Cond.lays "NoteImporter$CountException" "java/lang/Throwable" "backtrace" "Ljava/lang/Object;") ∈ lw_all := lw_g (lw_at lw_m11 233 rfl) rfl
theorem q2754 : (Jvm.Cond.instanceMethod ({ cls := "NoteImporter$CountException", name := "<init>", desc := "()V" } : Jvm.MethodName)) ∈ lw_all := lw_g (lw_at lw_m11 235 rfl) rfl
theorem q2755 : (Jvm.Cond.code ({ cls := "NoteImporter$CountException", name := "<init>", desc := "()V" } : Jvm.MethodName) prog_5_method_1_code (1 : Nat) (Option.none : Option Jvm.ClassFile.FieldType)) ∈ lw_all := lw_g (lw_at lw_m11 236 rfl) rfl
theorem q2756 : (Jvm.Cond.methodLink "NoteImporter$CountException" (1 : Nat) ({ cls := "java/lang/Exception", name := "<init>", desc := "(Ljava/lang/String;Ljava/lang/Throwable;ZZ)V" } : Jvm.MethodName)) ∈ lw_all := lw_g (lw_at lw_m11 237 rfl) rfl
theorem q2757 : (Jvm.Cond.lays "NoteImporter$CountException" "java/lang/Throwable" "depth" "I") ∈ lw_all := lw_g (lw_at lw_m11 238 rfl) rfl
theorem q2758 : (Jvm.Cond.superclass "NoteImporter$CountException" "java/lang/Exception") ∈ lw_all := lw_g (lw_at lw_m11 239 rfl) rfl
theorem q3821 : (Jvm.Cond.castable "NoteImporter$CountException" "java/lang/Object") ∈ lw_tbl := lw_at lw_m16 102 rfl
theorem in_X14 : ∀ w ∈ wsX140, w ∈ lw_all := lw_in wsX140 [2748, 2749, 2750, 2751, 2752, 2757] (by decide +kernel) (by decide +kernel)

/-! NoteImporter$ByLines -/
set_option maxRecDepth 100000
def RX15 : String := "NoteImporter$ByLines"
def TX15 : u_T := fun k => match k with
  | _ => ("NoteImporter$ByLines", "aim", "LNoteImporter$Edition;", true)
def tyX15 : Nat → FieldType := fun k => match k with
  | _ => .object "NoteImporter$Edition"
abbrev wsX150 : List Cond := u_ws RX15 TX15 1
theorem nmX15 : ∀ a, a < 1 → ∀ b, b < 1 → a ≠ b → (TX15 a).2.1 ≠ (TX15 b).2.1 := by decide +kernel
theorem tyX15_ok : ∀ k, k < 1 → parseFieldDescriptor (TX15 k).2.2.1 = some (tyX15 k) := by decide +kernel
abbrev cX15_init : ByteArray := prog_4_method_1_code
def yX15_init : MethodName := ⟨RX15, "<init>", "(LNoteImporter$Edition;)V"⟩
def dkwX15_init_0 : List UInt8 := [42, 183, 0, 1, 42, 43, 181, 0, 7, 177]
abbrev dktX15_init_0 : List UInt8 := dkwX15_init_0 ++ []
theorem dksX15_init_0 : cX15_init.data.toList.drop 0 = dktX15_init_0 := by decide +kernel
theorem dX15_init_0 : decode cX15_init 0 = .ok (.aload_n 0, 1) := dk_42 (dk_at dksX15_init_0 0 rfl rfl)
theorem dX15_init_1 : decode cX15_init 1 = .ok (.invokespecial 1, 3) := dk_183 0 1 (dk_at dksX15_init_0 1 rfl rfl)
theorem dX15_init_4 : decode cX15_init 4 = .ok (.aload_n 0, 1) := dk_42 (dk_at dksX15_init_0 4 rfl rfl)
theorem dX15_init_5 : decode cX15_init 5 = .ok (.aload_n 1, 1) := dk_43 (dk_at dksX15_init_0 5 rfl rfl)
theorem dX15_init_6 : decode cX15_init 6 = .ok (.putfield 7, 3) := dk_181 0 7 (dk_at dksX15_init_0 6 rfl rfl)
theorem dX15_init_9 : decode cX15_init 9 = .ok (.return_, 1) := dk_177 (dk_at dksX15_init_0 9 rfl rfl)
abbrev cX15_compare : ByteArray := prog_4_method_3_code
def yX15_compare : MethodName := ⟨RX15, "compare", "(Ljava/lang/Object;Ljava/lang/Object;)I"⟩
def dkwX15_compare_0 : List UInt8 := [42, 43, 192, 0, 20, 44, 192, 0, 20, 182, 0, 28, 172]
abbrev dktX15_compare_0 : List UInt8 := dkwX15_compare_0 ++ []
theorem dksX15_compare_0 : cX15_compare.data.toList.drop 0 = dktX15_compare_0 := by decide +kernel
theorem dX15_compare_0 : decode cX15_compare 0 = .ok (.aload_n 0, 1) := dk_42 (dk_at dksX15_compare_0 0 rfl rfl)
theorem dX15_compare_1 : decode cX15_compare 1 = .ok (.aload_n 1, 1) := dk_43 (dk_at dksX15_compare_0 1 rfl rfl)
theorem dX15_compare_2 : decode cX15_compare 2 = .ok (.checkcast 20, 3) := dk_192 0 20 (dk_at dksX15_compare_0 2 rfl rfl)
theorem dX15_compare_5 : decode cX15_compare 5 = .ok (.aload_n 2, 1) := dk_44 (dk_at dksX15_compare_0 5 rfl rfl)
theorem dX15_compare_6 : decode cX15_compare 6 = .ok (.checkcast 20, 3) := dk_192 0 20 (dk_at dksX15_compare_0 6 rfl rfl)
theorem dX15_compare_9 : decode cX15_compare 9 = .ok (.invokevirtual 28, 3) := dk_182 0 28 (dk_at dksX15_compare_0 9 rfl rfl)
theorem dX15_compare_12 : decode cX15_compare 12 = .ok (.ireturn, 1) := dk_172 (dk_at dksX15_compare_0 12 rfl rfl)
abbrev cX15_compare_2 : ByteArray := prog_4_method_2_code
def yX15_compare_2 : MethodName := ⟨RX15, "compare", "(LNoteImporter$Group;LNoteImporter$Group;)I"⟩
def dkwX15_compare_2_1 : List UInt8 := [100, 62, 29, 153, 0, 7, 29, 167, 0, 12, 43, 180, 0, 25, 44, 180, 0, 25, 100, 172]
abbrev dktX15_compare_2_1 : List UInt8 := dkwX15_compare_2_1 ++ []
def dkwX15_compare_2_0 : List UInt8 := [42, 180, 0, 7, 180, 0, 13, 43, 180, 0, 19, 46, 42, 180, 0, 7, 180, 0, 13, 44, 180, 0, 19, 46]
abbrev dktX15_compare_2_0 : List UInt8 := dkwX15_compare_2_0 ++ dktX15_compare_2_1
theorem dksX15_compare_2_0 : cX15_compare_2.data.toList.drop 0 = dktX15_compare_2_0 := by decide +kernel
theorem dksX15_compare_2_1 : cX15_compare_2.data.toList.drop 24 = dktX15_compare_2_1 := dk_seg dksX15_compare_2_0 24 rfl rfl
theorem dX15_compare_2_0 : decode cX15_compare_2 0 = .ok (.aload_n 0, 1) := dk_42 (dk_at dksX15_compare_2_0 0 rfl rfl)
theorem dX15_compare_2_1 : decode cX15_compare_2 1 = .ok (.getfield 7, 3) := dk_180 0 7 (dk_at dksX15_compare_2_0 1 rfl rfl)
theorem dX15_compare_2_4 : decode cX15_compare_2 4 = .ok (.getfield 13, 3) := dk_180 0 13 (dk_at dksX15_compare_2_0 4 rfl rfl)
theorem dX15_compare_2_7 : decode cX15_compare_2 7 = .ok (.aload_n 1, 1) := dk_43 (dk_at dksX15_compare_2_0 7 rfl rfl)
theorem dX15_compare_2_8 : decode cX15_compare_2 8 = .ok (.getfield 19, 3) := dk_180 0 19 (dk_at dksX15_compare_2_0 8 rfl rfl)
theorem dX15_compare_2_11 : decode cX15_compare_2 11 = .ok (.iaload, 1) := dk_46 (dk_at dksX15_compare_2_0 11 rfl rfl)
theorem dX15_compare_2_12 : decode cX15_compare_2 12 = .ok (.aload_n 0, 1) := dk_42 (dk_at dksX15_compare_2_0 12 rfl rfl)
theorem dX15_compare_2_13 : decode cX15_compare_2 13 = .ok (.getfield 7, 3) := dk_180 0 7 (dk_at dksX15_compare_2_0 13 rfl rfl)
theorem dX15_compare_2_16 : decode cX15_compare_2 16 = .ok (.getfield 13, 3) := dk_180 0 13 (dk_at dksX15_compare_2_0 16 rfl rfl)
theorem dX15_compare_2_19 : decode cX15_compare_2 19 = .ok (.aload_n 2, 1) := dk_44 (dk_at dksX15_compare_2_0 19 rfl rfl)
theorem dX15_compare_2_20 : decode cX15_compare_2 20 = .ok (.getfield 19, 3) := dk_180 0 19 (dk_at dksX15_compare_2_0 20 rfl rfl)
theorem dX15_compare_2_23 : decode cX15_compare_2 23 = .ok (.iaload, 1) := dk_46 (dk_at dksX15_compare_2_0 23 rfl rfl)
theorem dX15_compare_2_24 : decode cX15_compare_2 24 = .ok (.isub, 1) := dk_100 (dk_at dksX15_compare_2_1 0 rfl rfl)
theorem dX15_compare_2_25 : decode cX15_compare_2 25 = .ok (.istore_n 3, 1) := dk_62 (dk_at dksX15_compare_2_1 1 rfl rfl)
theorem dX15_compare_2_26 : decode cX15_compare_2 26 = .ok (.iload_n 3, 1) := dk_29 (dk_at dksX15_compare_2_1 2 rfl rfl)
theorem dX15_compare_2_27 : decode cX15_compare_2 27 = .ok (.ifCond .eq 7, 3) := dk_153 0 7 (dk_at dksX15_compare_2_1 3 rfl rfl)
theorem dX15_compare_2_30 : decode cX15_compare_2 30 = .ok (.iload_n 3, 1) := dk_29 (dk_at dksX15_compare_2_1 6 rfl rfl)
theorem dX15_compare_2_31 : decode cX15_compare_2 31 = .ok (.goto 12, 3) := dk_167 0 12 (dk_at dksX15_compare_2_1 7 rfl rfl)
theorem dX15_compare_2_34 : decode cX15_compare_2 34 = .ok (.aload_n 1, 1) := dk_43 (dk_at dksX15_compare_2_1 10 rfl rfl)
theorem dX15_compare_2_35 : decode cX15_compare_2 35 = .ok (.getfield 25, 3) := dk_180 0 25 (dk_at dksX15_compare_2_1 11 rfl rfl)
theorem dX15_compare_2_38 : decode cX15_compare_2 38 = .ok (.aload_n 2, 1) := dk_44 (dk_at dksX15_compare_2_1 14 rfl rfl)
theorem dX15_compare_2_39 : decode cX15_compare_2 39 = .ok (.getfield 25, 3) := dk_180 0 25 (dk_at dksX15_compare_2_1 15 rfl rfl)
theorem dX15_compare_2_42 : decode cX15_compare_2 42 = .ok (.isub, 1) := dk_100 (dk_at dksX15_compare_2_1 18 rfl rfl)
theorem dX15_compare_2_43 : decode cX15_compare_2 43 = .ok (.ireturn, 1) := dk_172 (dk_at dksX15_compare_2_1 19 rfl rfl)
theorem q185 : (Jvm.Cond.initialized "NoteImporter$ByLines") ∈ lw_all := lw_g (lw_at lw_m1 66 rfl) rfl
theorem q790 : (Jvm.Cond.fieldLinkNest "NoteImporter$ByLines" (25 : Nat) "NoteImporter$Group" "number" "I" "NoteImporter") ∈ lw_tbl := lw_at lw_m3 191 rfl
theorem q798 : (Jvm.Cond.fieldLinkNest "NoteImporter$ByLines" (19 : Nat) "NoteImporter$Group" "first" "I" "NoteImporter") ∈ lw_tbl := lw_at lw_m3 199 rfl
theorem q847 : (Jvm.Cond.selects "NoteImporter$ByLines" ({ cls := "java/lang/Object", name := "getClass", desc := "()Ljava/lang/Class;" } : Jvm.MethodName) ({ cls := "java/lang/Object", name := "getClass", desc := "()Ljava/lang/Class;" } : Jvm.MethodName)) ∈ lw_all := lw_g (lw_at lw_m4 8 rfl) rfl
theorem q1182 : (Jvm.Cond.selects "NoteImporter$ByLines" ({ cls := "java/lang/Object", name := "hashCode", desc := "()I" } : Jvm.MethodName) ({ cls := "java/lang/Object", name := "hashCode", desc := "()I" } : Jvm.MethodName)) ∈ lw_all := lw_g (lw_at lw_m5 103 rfl) rfl
theorem q1287 : (Jvm.Cond.selects "NoteImporter$ByLines" ({ cls := "java/lang/Object", name := "equals", desc := "(Ljava/lang/Object;)Z" } : Jvm.MethodName) ({ cls := "java/lang/Object", name := "equals", desc := "(Ljava/lang/Object;)Z" } : Jvm.MethodName)) ∈ lw_all := lw_g (lw_at lw_m5 208 rfl) rfl
theorem q1691 : (Jvm.Cond.instantiable "NoteImporter$ByLines" (1 : Nat)) ∈ lw_all := lw_g (lw_at lw_m7 132 rfl) rfl
theorem q1693 : (Jvm.Cond.instanceMethod ({ cls := "NoteImporter$ByLines", name := "<init>", desc := "(LNoteImporter$Edition;)V" } : Jvm.MethodName)) ∈ lw_all := lw_g (lw_at lw_m7 134 rfl) rfl
theorem q1694 : (Jvm.Cond.code ({ cls := "NoteImporter$ByLines", name := "<init>", desc := "(LNoteImporter$Edition;)V" } : Jvm.MethodName) prog_4_method_1_code (2 : Nat) (Option.none : Option Jvm.ClassFile.FieldType)) ∈ lw_all := lw_g (lw_at lw_m7 135 rfl) rfl
theorem q1695 : (Jvm.Cond.methodLink "NoteImporter$ByLines" (1 : Nat) ({ cls := "java/lang/Object", name := "<init>", desc := "()V" } : Jvm.MethodName)) ∈ lw_all := lw_g (lw_at lw_m7 136 rfl) rfl
theorem q1696 : (Jvm.Cond.fieldLink "NoteImporter$ByLines" (7 : Nat) "NoteImporter$ByLines" "aim" "LNoteImporter$Edition;") ∈ lw_all := lw_g (lw_at lw_m7 137 rfl) rfl
theorem q1697 : (Jvm.Cond.laysFinal "NoteImporter$ByLines" "NoteImporter$ByLines" "aim" "LNoteImporter$Edition;") ∈ lw_all := lw_g (lw_at lw_m7 138 rfl) rfl
theorem q1698 : (Jvm.Cond.soleField "NoteImporter$ByLines" "aim") ∈ lw_all := lw_g (lw_at lw_m7 139 rfl) rfl
theorem q1699 : (Jvm.Cond.superclass "NoteImporter$ByLines" "java/lang/Object") ∈ lw_all := lw_g (lw_at lw_m7 140 rfl) rfl
theorem q1765 : (Jvm.Cond.castable "NoteImporter$ByLines" "java/util/Comparator") ∈ lw_tbl := lw_at lw_m7 206 rfl
theorem q1766 : (Jvm.Cond.selects "NoteImporter$ByLines" ({ cls := "java/util/Comparator", name := "compare", desc := "(Ljava/lang/Object;Ljava/lang/Object;)I" } : Jvm.MethodName) ({ cls := "NoteImporter$ByLines", name := "compare", desc := "(Ljava/lang/Object;Ljava/lang/Object;)I" } : Jvm.MethodName)) ∈ lw_all := lw_g (lw_at lw_m7 207 rfl) rfl
theorem q1767 : (Jvm.Cond.unhidden "NoteImporter$ByLines" "compare" "(Ljava/lang/Object;Ljava/lang/Object;)I") ∈ lw_tbl := lw_at lw_m7 208 rfl
theorem q1768 : (Jvm.Cond.instanceMethod ({ cls := "NoteImporter$ByLines", name := "compare", desc := "(Ljava/lang/Object;Ljava/lang/Object;)I" } : Jvm.MethodName)) ∈ lw_all := lw_g (lw_at lw_m7 209 rfl) rfl
theorem q1769 : (Jvm.Cond.publicMethod ({ cls := "NoteImporter$ByLines", name := "compare", desc := "(Ljava/lang/Object;Ljava/lang/Object;)I" } : Jvm.MethodName)) ∈ lw_tbl := lw_at lw_m7 210 rfl
theorem q1770 : (Jvm.Cond.code ({ cls := "NoteImporter$ByLines", name := "compare", desc := "(Ljava/lang/Object;Ljava/lang/Object;)I" } : Jvm.MethodName) prog_4_method_3_code (3 : Nat) (Option.some Jvm.ClassFile.FieldType.int)) ∈ lw_all := lw_g (lw_at lw_m7 211 rfl) rfl
theorem q1771 : (Jvm.Cond.classLink "NoteImporter$ByLines" (20 : Nat) "NoteImporter$Group") ∈ lw_all := lw_g (lw_at lw_m7 212 rfl) rfl
theorem q1772 : (Jvm.Cond.methodLink "NoteImporter$ByLines" (28 : Nat) ({ cls := "NoteImporter$ByLines", name := "compare", desc := "(LNoteImporter$Group;LNoteImporter$Group;)I" } : Jvm.MethodName)) ∈ lw_all := lw_g (lw_at lw_m7 213 rfl) rfl
theorem q1773 : (Jvm.Cond.instanceMethod ({ cls := "NoteImporter$ByLines", name := "compare", desc := "(LNoteImporter$Group;LNoteImporter$Group;)I" } : Jvm.MethodName)) ∈ lw_all := lw_g (lw_at lw_m7 214 rfl) rfl
theorem q1774 : (Jvm.Cond.selects "NoteImporter$ByLines" ({ cls := "NoteImporter$ByLines", name := "compare", desc := "(LNoteImporter$Group;LNoteImporter$Group;)I" } : Jvm.MethodName) ({ cls := "NoteImporter$ByLines", name := "compare", desc := "(LNoteImporter$Group;LNoteImporter$Group;)I" } : Jvm.MethodName)) ∈ lw_all := lw_g (lw_at lw_m7 215 rfl) rfl
theorem q1775 : (Jvm.Cond.code ({ cls := "NoteImporter$ByLines", name := "compare", desc := "(LNoteImporter$Group;LNoteImporter$Group;)I" } : Jvm.MethodName) prog_4_method_2_code (4 : Nat) (Option.some Jvm.ClassFile.FieldType.int)) ∈ lw_all := lw_g (lw_at lw_m7 216 rfl) rfl
theorem q1872 : (Jvm.Cond.fieldLinkNest "NoteImporter$ByLines" (13 : Nat) "NoteImporter$Edition" "lineOf" "[I" "NoteImporter") ∈ lw_tbl := lw_at lw_m8 73 rfl
theorem q3826 : (Jvm.Cond.castable "NoteImporter$ByLines" "java/lang/Object") ∈ lw_tbl := lw_at lw_m16 107 rfl
theorem in_X15 : ∀ w ∈ wsX150, w ∈ lw_all := lw_in wsX150 [1697] (by decide +kernel) (by decide +kernel)

