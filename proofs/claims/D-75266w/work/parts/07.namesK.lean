/-! java/util/TreeMap -/
set_option maxRecDepth 100000
def RJ23 : String := "java/util/TreeMap"
def TJ23 : u_T := fun k => match k with
  | 0 => ("java/util/AbstractMap", "keySet", "Ljava/util/Set;", false)
  | 1 => ("java/util/AbstractMap", "values", "Ljava/util/Collection;", false)
  | 2 => ("java/util/TreeMap", "comparator", "Ljava/util/Comparator;", true)
  | 3 => ("java/util/TreeMap", "root", "Ljava/util/TreeMap$Entry;", false)
  | 4 => ("java/util/TreeMap", "size", "I", false)
  | 5 => ("java/util/TreeMap", "modCount", "I", false)
  | 6 => ("java/util/TreeMap", "entrySet", "Ljava/util/TreeMap$EntrySet;", false)
  | 7 => ("java/util/TreeMap", "navigableKeySet", "Ljava/util/TreeMap$KeySet;", false)
  | _ => ("java/util/TreeMap", "descendingMap", "Ljava/util/NavigableMap;", false)
def tyJ23 : Nat → FieldType := fun k => match k with
  | 0 => .object "java/util/Set"
  | 1 => .object "java/util/Collection"
  | 2 => .object "java/util/Comparator"
  | 3 => .object "java/util/TreeMap$Entry"
  | 4 => .int
  | 5 => .int
  | 6 => .object "java/util/TreeMap$EntrySet"
  | 7 => .object "java/util/TreeMap$KeySet"
  | _ => .object "java/util/NavigableMap"
abbrev wsJ230 : List Cond := u_ws RJ23 TJ23 9
theorem nmJ23 : ∀ a, a < 9 → ∀ b, b < 9 → a ≠ b → (TJ23 a).2.1 ≠ (TJ23 b).2.1 := by decide +kernel
theorem tyJ23_ok : ∀ k, k < 9 → parseFieldDescriptor (TJ23 k).2.2.1 = some (tyJ23 k) := by decide +kernel
abbrev cJ23_keyIterator : ByteArray := prog_83_method_65_code
def yJ23_keyIterator : MethodName := ⟨RJ23, "keyIterator", "()Ljava/util/Iterator;"⟩
def dkwJ23_keyIterator_0 : List UInt8 := [187, 1, 13, 89, 42, 42, 182, 0, 54, 183, 1, 15, 176]
abbrev dktJ23_keyIterator_0 : List UInt8 := dkwJ23_keyIterator_0 ++ []
theorem dksJ23_keyIterator_0 : cJ23_keyIterator.data.toList.drop 0 = dktJ23_keyIterator_0 := by decide +kernel
theorem dJ23_keyIterator_0 : decode cJ23_keyIterator 0 = .ok (.new 269, 3) := dk_187 1 13 (dk_at dksJ23_keyIterator_0 0 rfl rfl)
theorem dJ23_keyIterator_3 : decode cJ23_keyIterator 3 = .ok (.dup, 1) := dk_89 (dk_at dksJ23_keyIterator_0 3 rfl rfl)
theorem dJ23_keyIterator_4 : decode cJ23_keyIterator 4 = .ok (.aload_n 0, 1) := dk_42 (dk_at dksJ23_keyIterator_0 4 rfl rfl)
theorem dJ23_keyIterator_5 : decode cJ23_keyIterator 5 = .ok (.aload_n 0, 1) := dk_42 (dk_at dksJ23_keyIterator_0 5 rfl rfl)
theorem dJ23_keyIterator_6 : decode cJ23_keyIterator 6 = .ok (.invokevirtual 54, 3) := dk_182 0 54 (dk_at dksJ23_keyIterator_0 6 rfl rfl)
theorem dJ23_keyIterator_9 : decode cJ23_keyIterator 9 = .ok (.invokespecial 271, 3) := dk_183 1 15 (dk_at dksJ23_keyIterator_0 9 rfl rfl)
theorem dJ23_keyIterator_12 : decode cJ23_keyIterator 12 = .ok (.areturn, 1) := dk_176 (dk_at dksJ23_keyIterator_0 12 rfl rfl)
abbrev cJ23_getFirstEntry : ByteArray := prog_83_method_72_code
def yJ23_getFirstEntry : MethodName := ⟨RJ23, "getFirstEntry", "()Ljava/util/TreeMap$Entry;"⟩
def dkwJ23_getFirstEntry_1 : List UInt8 := [43, 176]
abbrev dktJ23_getFirstEntry_1 : List UInt8 := dkwJ23_getFirstEntry_1 ++ []
def dkwJ23_getFirstEntry_0 : List UInt8 := [42, 180, 0, 101, 76, 43, 198, 0, 18, 43, 180, 0, 111, 198, 0, 11, 43, 180, 0, 111, 76, 167, 255, 244]
abbrev dktJ23_getFirstEntry_0 : List UInt8 := dkwJ23_getFirstEntry_0 ++ dktJ23_getFirstEntry_1
theorem dksJ23_getFirstEntry_0 : cJ23_getFirstEntry.data.toList.drop 0 = dktJ23_getFirstEntry_0 := by decide +kernel
theorem dksJ23_getFirstEntry_1 : cJ23_getFirstEntry.data.toList.drop 24 = dktJ23_getFirstEntry_1 := dk_seg dksJ23_getFirstEntry_0 24 rfl rfl
theorem dJ23_getFirstEntry_0 : decode cJ23_getFirstEntry 0 = .ok (.aload_n 0, 1) := dk_42 (dk_at dksJ23_getFirstEntry_0 0 rfl rfl)
theorem dJ23_getFirstEntry_1 : decode cJ23_getFirstEntry 1 = .ok (.getfield 101, 3) := dk_180 0 101 (dk_at dksJ23_getFirstEntry_0 1 rfl rfl)
theorem dJ23_getFirstEntry_4 : decode cJ23_getFirstEntry 4 = .ok (.astore_n 1, 1) := dk_76 (dk_at dksJ23_getFirstEntry_0 4 rfl rfl)
theorem dJ23_getFirstEntry_5 : decode cJ23_getFirstEntry 5 = .ok (.aload_n 1, 1) := dk_43 (dk_at dksJ23_getFirstEntry_0 5 rfl rfl)
theorem dJ23_getFirstEntry_6 : decode cJ23_getFirstEntry 6 = .ok (.ifnull 18, 3) := dk_198 0 18 (dk_at dksJ23_getFirstEntry_0 6 rfl rfl)
theorem dJ23_getFirstEntry_9 : decode cJ23_getFirstEntry 9 = .ok (.aload_n 1, 1) := dk_43 (dk_at dksJ23_getFirstEntry_0 9 rfl rfl)
theorem dJ23_getFirstEntry_10 : decode cJ23_getFirstEntry 10 = .ok (.getfield 111, 3) := dk_180 0 111 (dk_at dksJ23_getFirstEntry_0 10 rfl rfl)
theorem dJ23_getFirstEntry_13 : decode cJ23_getFirstEntry 13 = .ok (.ifnull 11, 3) := dk_198 0 11 (dk_at dksJ23_getFirstEntry_0 13 rfl rfl)
theorem dJ23_getFirstEntry_16 : decode cJ23_getFirstEntry 16 = .ok (.aload_n 1, 1) := dk_43 (dk_at dksJ23_getFirstEntry_0 16 rfl rfl)
theorem dJ23_getFirstEntry_17 : decode cJ23_getFirstEntry 17 = .ok (.getfield 111, 3) := dk_180 0 111 (dk_at dksJ23_getFirstEntry_0 17 rfl rfl)
theorem dJ23_getFirstEntry_20 : decode cJ23_getFirstEntry 20 = .ok (.astore_n 1, 1) := dk_76 (dk_at dksJ23_getFirstEntry_0 20 rfl rfl)
theorem dJ23_getFirstEntry_21 : decode cJ23_getFirstEntry 21 = .ok (.goto (-12), 3) := dk_167 255 244 (dk_at dksJ23_getFirstEntry_0 21 rfl rfl)
theorem dJ23_getFirstEntry_24 : decode cJ23_getFirstEntry 24 = .ok (.aload_n 1, 1) := dk_43 (dk_at dksJ23_getFirstEntry_1 0 rfl rfl)
theorem dJ23_getFirstEntry_25 : decode cJ23_getFirstEntry 25 = .ok (.areturn, 1) := dk_176 (dk_at dksJ23_getFirstEntry_1 1 rfl rfl)
abbrev cJ23_navigableKeySet : ByteArray := prog_83_method_50_code
def yJ23_navigableKeySet : MethodName := ⟨RJ23, "navigableKeySet", "()Ljava/util/NavigableSet;"⟩
def dkwJ23_navigableKeySet_1 : List UInt8 := [181, 0, 191, 176]
abbrev dktJ23_navigableKeySet_1 : List UInt8 := dkwJ23_navigableKeySet_1 ++ []
def dkwJ23_navigableKeySet_0 : List UInt8 := [42, 180, 0, 191, 76, 43, 198, 0, 7, 43, 167, 0, 16, 42, 187, 0, 222, 89, 42, 183, 0, 224, 90]
abbrev dktJ23_navigableKeySet_0 : List UInt8 := dkwJ23_navigableKeySet_0 ++ dktJ23_navigableKeySet_1
theorem dksJ23_navigableKeySet_0 : cJ23_navigableKeySet.data.toList.drop 0 = dktJ23_navigableKeySet_0 := by decide +kernel
theorem dksJ23_navigableKeySet_1 : cJ23_navigableKeySet.data.toList.drop 23 = dktJ23_navigableKeySet_1 := dk_seg dksJ23_navigableKeySet_0 23 rfl rfl
theorem dJ23_navigableKeySet_0 : decode cJ23_navigableKeySet 0 = .ok (.aload_n 0, 1) := dk_42 (dk_at dksJ23_navigableKeySet_0 0 rfl rfl)
theorem dJ23_navigableKeySet_1 : decode cJ23_navigableKeySet 1 = .ok (.getfield 191, 3) := dk_180 0 191 (dk_at dksJ23_navigableKeySet_0 1 rfl rfl)
theorem dJ23_navigableKeySet_4 : decode cJ23_navigableKeySet 4 = .ok (.astore_n 1, 1) := dk_76 (dk_at dksJ23_navigableKeySet_0 4 rfl rfl)
theorem dJ23_navigableKeySet_5 : decode cJ23_navigableKeySet 5 = .ok (.aload_n 1, 1) := dk_43 (dk_at dksJ23_navigableKeySet_0 5 rfl rfl)
theorem dJ23_navigableKeySet_6 : decode cJ23_navigableKeySet 6 = .ok (.ifnull 7, 3) := dk_198 0 7 (dk_at dksJ23_navigableKeySet_0 6 rfl rfl)
theorem dJ23_navigableKeySet_9 : decode cJ23_navigableKeySet 9 = .ok (.aload_n 1, 1) := dk_43 (dk_at dksJ23_navigableKeySet_0 9 rfl rfl)
theorem dJ23_navigableKeySet_10 : decode cJ23_navigableKeySet 10 = .ok (.goto 16, 3) := dk_167 0 16 (dk_at dksJ23_navigableKeySet_0 10 rfl rfl)
theorem dJ23_navigableKeySet_13 : decode cJ23_navigableKeySet 13 = .ok (.aload_n 0, 1) := dk_42 (dk_at dksJ23_navigableKeySet_0 13 rfl rfl)
theorem dJ23_navigableKeySet_14 : decode cJ23_navigableKeySet 14 = .ok (.new 222, 3) := dk_187 0 222 (dk_at dksJ23_navigableKeySet_0 14 rfl rfl)
theorem dJ23_navigableKeySet_17 : decode cJ23_navigableKeySet 17 = .ok (.dup, 1) := dk_89 (dk_at dksJ23_navigableKeySet_0 17 rfl rfl)
theorem dJ23_navigableKeySet_18 : decode cJ23_navigableKeySet 18 = .ok (.aload_n 0, 1) := dk_42 (dk_at dksJ23_navigableKeySet_0 18 rfl rfl)
theorem dJ23_navigableKeySet_19 : decode cJ23_navigableKeySet 19 = .ok (.invokespecial 224, 3) := dk_183 0 224 (dk_at dksJ23_navigableKeySet_0 19 rfl rfl)
theorem dJ23_navigableKeySet_22 : decode cJ23_navigableKeySet 22 = .ok (.dup_x1, 1) := dk_90 (dk_at dksJ23_navigableKeySet_0 22 rfl rfl)
theorem dJ23_navigableKeySet_23 : decode cJ23_navigableKeySet 23 = .ok (.putfield 191, 3) := dk_181 0 191 (dk_at dksJ23_navigableKeySet_1 0 rfl rfl)
theorem dJ23_navigableKeySet_26 : decode cJ23_navigableKeySet 26 = .ok (.areturn, 1) := dk_176 (dk_at dksJ23_navigableKeySet_1 3 rfl rfl)
abbrev cJ23_successor : ByteArray := prog_83_method_74_code
def yJ23_successor : MethodName := ⟨RJ23, "successor", "(Ljava/util/TreeMap$Entry;)Ljava/util/TreeMap$Entry;"⟩
def dkwJ23_successor_2 : List UInt8 := [44, 43, 180, 0, 114, 166, 0, 13, 43, 77, 43, 180, 0, 124, 76, 167, 255, 237, 43, 176]
abbrev dktJ23_successor_2 : List UInt8 := dkwJ23_successor_2 ++ []
def dkwJ23_successor_1 : List UInt8 := [198, 0, 11, 43, 180, 0, 111, 76, 167, 255, 244, 43, 176, 42, 180, 0, 124, 76, 42, 77, 43, 198, 0, 21]
abbrev dktJ23_successor_1 : List UInt8 := dkwJ23_successor_1 ++ dktJ23_successor_2
def dkwJ23_successor_0 : List UInt8 := [42, 199, 0, 5, 1, 176, 42, 180, 0, 114, 198, 0, 25, 42, 180, 0, 114, 76, 43, 180, 0, 111]
abbrev dktJ23_successor_0 : List UInt8 := dkwJ23_successor_0 ++ dktJ23_successor_1
theorem dksJ23_successor_0 : cJ23_successor.data.toList.drop 0 = dktJ23_successor_0 := by decide +kernel
theorem dksJ23_successor_1 : cJ23_successor.data.toList.drop 22 = dktJ23_successor_1 := dk_seg dksJ23_successor_0 22 rfl rfl
theorem dksJ23_successor_2 : cJ23_successor.data.toList.drop 46 = dktJ23_successor_2 := dk_seg dksJ23_successor_1 24 rfl rfl
theorem dJ23_successor_0 : decode cJ23_successor 0 = .ok (.aload_n 0, 1) := dk_42 (dk_at dksJ23_successor_0 0 rfl rfl)
theorem dJ23_successor_1 : decode cJ23_successor 1 = .ok (.ifnonnull 5, 3) := dk_199 0 5 (dk_at dksJ23_successor_0 1 rfl rfl)
theorem dJ23_successor_4 : decode cJ23_successor 4 = .ok (.aconst_null, 1) := dk_1 (dk_at dksJ23_successor_0 4 rfl rfl)
theorem dJ23_successor_5 : decode cJ23_successor 5 = .ok (.areturn, 1) := dk_176 (dk_at dksJ23_successor_0 5 rfl rfl)
theorem dJ23_successor_6 : decode cJ23_successor 6 = .ok (.aload_n 0, 1) := dk_42 (dk_at dksJ23_successor_0 6 rfl rfl)
theorem dJ23_successor_7 : decode cJ23_successor 7 = .ok (.getfield 114, 3) := dk_180 0 114 (dk_at dksJ23_successor_0 7 rfl rfl)
theorem dJ23_successor_10 : decode cJ23_successor 10 = .ok (.ifnull 25, 3) := dk_198 0 25 (dk_at dksJ23_successor_0 10 rfl rfl)
theorem dJ23_successor_13 : decode cJ23_successor 13 = .ok (.aload_n 0, 1) := dk_42 (dk_at dksJ23_successor_0 13 rfl rfl)
theorem dJ23_successor_14 : decode cJ23_successor 14 = .ok (.getfield 114, 3) := dk_180 0 114 (dk_at dksJ23_successor_0 14 rfl rfl)
theorem dJ23_successor_17 : decode cJ23_successor 17 = .ok (.astore_n 1, 1) := dk_76 (dk_at dksJ23_successor_0 17 rfl rfl)
theorem dJ23_successor_18 : decode cJ23_successor 18 = .ok (.aload_n 1, 1) := dk_43 (dk_at dksJ23_successor_0 18 rfl rfl)
theorem dJ23_successor_19 : decode cJ23_successor 19 = .ok (.getfield 111, 3) := dk_180 0 111 (dk_at dksJ23_successor_0 19 rfl rfl)
theorem dJ23_successor_22 : decode cJ23_successor 22 = .ok (.ifnull 11, 3) := dk_198 0 11 (dk_at dksJ23_successor_1 0 rfl rfl)
theorem dJ23_successor_25 : decode cJ23_successor 25 = .ok (.aload_n 1, 1) := dk_43 (dk_at dksJ23_successor_1 3 rfl rfl)
theorem dJ23_successor_26 : decode cJ23_successor 26 = .ok (.getfield 111, 3) := dk_180 0 111 (dk_at dksJ23_successor_1 4 rfl rfl)
theorem dJ23_successor_29 : decode cJ23_successor 29 = .ok (.astore_n 1, 1) := dk_76 (dk_at dksJ23_successor_1 7 rfl rfl)
theorem dJ23_successor_30 : decode cJ23_successor 30 = .ok (.goto (-12), 3) := dk_167 255 244 (dk_at dksJ23_successor_1 8 rfl rfl)
theorem dJ23_successor_33 : decode cJ23_successor 33 = .ok (.aload_n 1, 1) := dk_43 (dk_at dksJ23_successor_1 11 rfl rfl)
theorem dJ23_successor_34 : decode cJ23_successor 34 = .ok (.areturn, 1) := dk_176 (dk_at dksJ23_successor_1 12 rfl rfl)
theorem dJ23_successor_35 : decode cJ23_successor 35 = .ok (.aload_n 0, 1) := dk_42 (dk_at dksJ23_successor_1 13 rfl rfl)
theorem dJ23_successor_36 : decode cJ23_successor 36 = .ok (.getfield 124, 3) := dk_180 0 124 (dk_at dksJ23_successor_1 14 rfl rfl)
theorem dJ23_successor_39 : decode cJ23_successor 39 = .ok (.astore_n 1, 1) := dk_76 (dk_at dksJ23_successor_1 17 rfl rfl)
theorem dJ23_successor_40 : decode cJ23_successor 40 = .ok (.aload_n 0, 1) := dk_42 (dk_at dksJ23_successor_1 18 rfl rfl)
theorem dJ23_successor_41 : decode cJ23_successor 41 = .ok (.astore_n 2, 1) := dk_77 (dk_at dksJ23_successor_1 19 rfl rfl)
theorem dJ23_successor_42 : decode cJ23_successor 42 = .ok (.aload_n 1, 1) := dk_43 (dk_at dksJ23_successor_1 20 rfl rfl)
theorem dJ23_successor_43 : decode cJ23_successor 43 = .ok (.ifnull 21, 3) := dk_198 0 21 (dk_at dksJ23_successor_1 21 rfl rfl)
theorem dJ23_successor_46 : decode cJ23_successor 46 = .ok (.aload_n 2, 1) := dk_44 (dk_at dksJ23_successor_2 0 rfl rfl)
theorem dJ23_successor_47 : decode cJ23_successor 47 = .ok (.aload_n 1, 1) := dk_43 (dk_at dksJ23_successor_2 1 rfl rfl)
theorem dJ23_successor_48 : decode cJ23_successor 48 = .ok (.getfield 114, 3) := dk_180 0 114 (dk_at dksJ23_successor_2 2 rfl rfl)
theorem dJ23_successor_51 : decode cJ23_successor 51 = .ok (.if_acmp .ne 13, 3) := dk_166 0 13 (dk_at dksJ23_successor_2 5 rfl rfl)
theorem dJ23_successor_54 : decode cJ23_successor 54 = .ok (.aload_n 1, 1) := dk_43 (dk_at dksJ23_successor_2 8 rfl rfl)
theorem dJ23_successor_55 : decode cJ23_successor 55 = .ok (.astore_n 2, 1) := dk_77 (dk_at dksJ23_successor_2 9 rfl rfl)
theorem dJ23_successor_56 : decode cJ23_successor 56 = .ok (.aload_n 1, 1) := dk_43 (dk_at dksJ23_successor_2 10 rfl rfl)
theorem dJ23_successor_57 : decode cJ23_successor 57 = .ok (.getfield 124, 3) := dk_180 0 124 (dk_at dksJ23_successor_2 11 rfl rfl)
theorem dJ23_successor_60 : decode cJ23_successor 60 = .ok (.astore_n 1, 1) := dk_76 (dk_at dksJ23_successor_2 14 rfl rfl)
theorem dJ23_successor_61 : decode cJ23_successor 61 = .ok (.goto (-19), 3) := dk_167 255 237 (dk_at dksJ23_successor_2 15 rfl rfl)
theorem dJ23_successor_64 : decode cJ23_successor 64 = .ok (.aload_n 1, 1) := dk_43 (dk_at dksJ23_successor_2 18 rfl rfl)
theorem dJ23_successor_65 : decode cJ23_successor 65 = .ok (.areturn, 1) := dk_176 (dk_at dksJ23_successor_2 19 rfl rfl)
abbrev cJ23_size : ByteArray := prog_83_method_5_code
def yJ23_size : MethodName := ⟨RJ23, "size", "()I"⟩
theorem dJ23_size_0 : decode cJ23_size 0 = .ok (.aload_n 0, 1) := by decide +kernel
theorem dJ23_size_1 : decode cJ23_size 1 = .ok (.getfield 7, 3) := by decide +kernel
theorem dJ23_size_4 : decode cJ23_size 4 = .ok (.ireturn, 1) := by decide +kernel
abbrev cJ23_put : ByteArray := prog_83_method_21_code
def yJ23_put : MethodName := ⟨RJ23, "put", "(Ljava/lang/Object;Ljava/lang/Object;)Ljava/lang/Object;"⟩
def dkwJ23_put_0 : List UInt8 := [42, 43, 44, 4, 182, 0, 127, 176]
abbrev dktJ23_put_0 : List UInt8 := dkwJ23_put_0 ++ []
theorem dksJ23_put_0 : cJ23_put.data.toList.drop 0 = dktJ23_put_0 := by decide +kernel
theorem dJ23_put_0 : decode cJ23_put 0 = .ok (.aload_n 0, 1) := dk_42 (dk_at dksJ23_put_0 0 rfl rfl)
theorem dJ23_put_1 : decode cJ23_put 1 = .ok (.aload_n 1, 1) := dk_43 (dk_at dksJ23_put_0 1 rfl rfl)
theorem dJ23_put_2 : decode cJ23_put 2 = .ok (.aload_n 2, 1) := dk_44 (dk_at dksJ23_put_0 2 rfl rfl)
theorem dJ23_put_3 : decode cJ23_put 3 = .ok (.iconst 1, 1) := dk_4 (dk_at dksJ23_put_0 3 rfl rfl)
theorem dJ23_put_4 : decode cJ23_put 4 = .ok (.invokevirtual 127, 3) := dk_182 0 127 (dk_at dksJ23_put_0 4 rfl rfl)
theorem dJ23_put_7 : decode cJ23_put 7 = .ok (.areturn, 1) := dk_176 (dk_at dksJ23_put_0 7 rfl rfl)
abbrev cJ23_put_2 : ByteArray := prog_83_method_31_code
def yJ23_put_2 : MethodName := ⟨RJ23, "put", "(Ljava/lang/Object;Ljava/lang/Object;Z)Ljava/lang/Object;"⟩
def dkwJ23_put_2_9 : List UInt8 := [4, 167, 0, 4, 3, 182, 0, 139, 1, 176]
abbrev dktJ23_put_2_9 : List UInt8 := dkwJ23_put_2_9 ++ []
def dkwJ23_put_2_8 : List UInt8 := [25, 4, 44, 181, 0, 58, 25, 9, 176, 25, 4, 199, 255, 181, 42, 43, 44, 25, 6, 21, 5, 156, 0, 7]
abbrev dktJ23_put_2_8 : List UInt8 := dkwJ23_put_2_8 ++ dktJ23_put_2_9
def dkwJ23_put_2_7 : List UInt8 := [180, 0, 114, 58, 4, 167, 0, 28, 25, 4, 180, 0, 58, 58, 9, 29, 154, 0, 8, 25, 9, 199, 0, 9]
abbrev dktJ23_put_2_7 : List UInt8 := dkwJ23_put_2_7 ++ dktJ23_put_2_8
def dkwJ23_put_2_6 : List UInt8 := [21, 5, 156, 0, 13, 25, 4, 180, 0, 111, 58, 4, 167, 0, 43, 21, 5, 158, 0, 13, 25, 4]
abbrev dktJ23_put_2_6 : List UInt8 := dkwJ23_put_2_6 ++ dktJ23_put_2_7
def dkwJ23_put_2_5 : List UInt8 := [192, 0, 99, 58, 8, 25, 4, 58, 6, 25, 8, 25, 4, 180, 0, 105, 185, 0, 107, 2, 0, 54, 5]
abbrev dktJ23_put_2_5 : List UInt8 := dkwJ23_put_2_5 ++ dktJ23_put_2_6
def dkwJ23_put_2_4 : List UInt8 := [25, 4, 44, 181, 0, 58, 25, 8, 176, 25, 4, 199, 255, 180, 167, 0, 92, 43, 184, 0, 95, 87, 43]
abbrev dktJ23_put_2_4 : List UInt8 := dkwJ23_put_2_4 ++ dktJ23_put_2_5
def dkwJ23_put_2_3 : List UInt8 := [180, 0, 114, 58, 4, 167, 0, 28, 25, 4, 180, 0, 58, 58, 8, 29, 154, 0, 8, 25, 8, 199, 0, 9]
abbrev dktJ23_put_2_3 : List UInt8 := dkwJ23_put_2_3 ++ dktJ23_put_2_4
def dkwJ23_put_2_2 : List UInt8 := [54, 5, 21, 5, 156, 0, 13, 25, 4, 180, 0, 111, 58, 4, 167, 0, 43, 21, 5, 158, 0, 13, 25, 4]
abbrev dktJ23_put_2_2 : List UInt8 := dkwJ23_put_2_2 ++ dktJ23_put_2_3
def dkwJ23_put_2_1 : List UInt8 := [58, 7, 25, 7, 198, 0, 85, 25, 4, 58, 6, 25, 7, 43, 25, 4, 180, 0, 105, 185, 0, 117, 3, 0]
abbrev dktJ23_put_2_1 : List UInt8 := dkwJ23_put_2_1 ++ dktJ23_put_2_2
def dkwJ23_put_2_0 : List UInt8 := [42, 180, 0, 101, 58, 4, 25, 4, 199, 0, 11, 42, 43, 44, 182, 0, 135, 1, 176, 42, 180, 0, 16]
abbrev dktJ23_put_2_0 : List UInt8 := dkwJ23_put_2_0 ++ dktJ23_put_2_1
theorem dksJ23_put_2_0 : cJ23_put_2.data.toList.drop 0 = dktJ23_put_2_0 := by decide +kernel
theorem dksJ23_put_2_1 : cJ23_put_2.data.toList.drop 23 = dktJ23_put_2_1 := dk_seg dksJ23_put_2_0 23 rfl rfl
theorem dksJ23_put_2_2 : cJ23_put_2.data.toList.drop 47 = dktJ23_put_2_2 := dk_seg dksJ23_put_2_1 24 rfl rfl
theorem dksJ23_put_2_3 : cJ23_put_2.data.toList.drop 71 = dktJ23_put_2_3 := dk_seg dksJ23_put_2_2 24 rfl rfl
theorem dksJ23_put_2_4 : cJ23_put_2.data.toList.drop 95 = dktJ23_put_2_4 := dk_seg dksJ23_put_2_3 24 rfl rfl
theorem dksJ23_put_2_5 : cJ23_put_2.data.toList.drop 118 = dktJ23_put_2_5 := dk_seg dksJ23_put_2_4 23 rfl rfl
theorem dksJ23_put_2_6 : cJ23_put_2.data.toList.drop 141 = dktJ23_put_2_6 := dk_seg dksJ23_put_2_5 23 rfl rfl
theorem dksJ23_put_2_7 : cJ23_put_2.data.toList.drop 163 = dktJ23_put_2_7 := dk_seg dksJ23_put_2_6 22 rfl rfl
theorem dksJ23_put_2_8 : cJ23_put_2.data.toList.drop 187 = dktJ23_put_2_8 := dk_seg dksJ23_put_2_7 24 rfl rfl
theorem dksJ23_put_2_9 : cJ23_put_2.data.toList.drop 211 = dktJ23_put_2_9 := dk_seg dksJ23_put_2_8 24 rfl rfl
theorem dJ23_put_2_0 : decode cJ23_put_2 0 = .ok (.aload_n 0, 1) := dk_42 (dk_at dksJ23_put_2_0 0 rfl rfl)
theorem dJ23_put_2_1 : decode cJ23_put_2 1 = .ok (.getfield 101, 3) := dk_180 0 101 (dk_at dksJ23_put_2_0 1 rfl rfl)
theorem dJ23_put_2_4 : decode cJ23_put_2 4 = .ok (.astore 4, 2) := dk_58 4 (dk_at dksJ23_put_2_0 4 rfl rfl)
theorem dJ23_put_2_6 : decode cJ23_put_2 6 = .ok (.aload 4, 2) := dk_25 4 (dk_at dksJ23_put_2_0 6 rfl rfl)
theorem dJ23_put_2_8 : decode cJ23_put_2 8 = .ok (.ifnonnull 11, 3) := dk_199 0 11 (dk_at dksJ23_put_2_0 8 rfl rfl)
theorem dJ23_put_2_11 : decode cJ23_put_2 11 = .ok (.aload_n 0, 1) := dk_42 (dk_at dksJ23_put_2_0 11 rfl rfl)
theorem dJ23_put_2_12 : decode cJ23_put_2 12 = .ok (.aload_n 1, 1) := dk_43 (dk_at dksJ23_put_2_0 12 rfl rfl)
theorem dJ23_put_2_13 : decode cJ23_put_2 13 = .ok (.aload_n 2, 1) := dk_44 (dk_at dksJ23_put_2_0 13 rfl rfl)
theorem dJ23_put_2_14 : decode cJ23_put_2 14 = .ok (.invokevirtual 135, 3) := dk_182 0 135 (dk_at dksJ23_put_2_0 14 rfl rfl)
theorem dJ23_put_2_17 : decode cJ23_put_2 17 = .ok (.aconst_null, 1) := dk_1 (dk_at dksJ23_put_2_0 17 rfl rfl)
theorem dJ23_put_2_18 : decode cJ23_put_2 18 = .ok (.areturn, 1) := dk_176 (dk_at dksJ23_put_2_0 18 rfl rfl)
theorem dJ23_put_2_19 : decode cJ23_put_2 19 = .ok (.aload_n 0, 1) := dk_42 (dk_at dksJ23_put_2_0 19 rfl rfl)
theorem dJ23_put_2_20 : decode cJ23_put_2 20 = .ok (.getfield 16, 3) := dk_180 0 16 (dk_at dksJ23_put_2_0 20 rfl rfl)
theorem dJ23_put_2_23 : decode cJ23_put_2 23 = .ok (.astore 7, 2) := dk_58 7 (dk_at dksJ23_put_2_1 0 rfl rfl)
theorem dJ23_put_2_25 : decode cJ23_put_2 25 = .ok (.aload 7, 2) := dk_25 7 (dk_at dksJ23_put_2_1 2 rfl rfl)
theorem dJ23_put_2_27 : decode cJ23_put_2 27 = .ok (.ifnull 85, 3) := dk_198 0 85 (dk_at dksJ23_put_2_1 4 rfl rfl)
theorem dJ23_put_2_30 : decode cJ23_put_2 30 = .ok (.aload 4, 2) := dk_25 4 (dk_at dksJ23_put_2_1 7 rfl rfl)
theorem dJ23_put_2_32 : decode cJ23_put_2 32 = .ok (.astore 6, 2) := dk_58 6 (dk_at dksJ23_put_2_1 9 rfl rfl)
theorem dJ23_put_2_34 : decode cJ23_put_2 34 = .ok (.aload 7, 2) := dk_25 7 (dk_at dksJ23_put_2_1 11 rfl rfl)
theorem dJ23_put_2_36 : decode cJ23_put_2 36 = .ok (.aload_n 1, 1) := dk_43 (dk_at dksJ23_put_2_1 13 rfl rfl)
theorem dJ23_put_2_37 : decode cJ23_put_2 37 = .ok (.aload 4, 2) := dk_25 4 (dk_at dksJ23_put_2_1 14 rfl rfl)
theorem dJ23_put_2_39 : decode cJ23_put_2 39 = .ok (.getfield 105, 3) := dk_180 0 105 (dk_at dksJ23_put_2_1 16 rfl rfl)
theorem dJ23_put_2_42 : decode cJ23_put_2 42 = .ok (.invokeinterface 117 3, 5) := by decide +kernel
theorem dJ23_put_2_47 : decode cJ23_put_2 47 = .ok (.istore 5, 2) := dk_54 5 (dk_at dksJ23_put_2_2 0 rfl rfl)
theorem dJ23_put_2_49 : decode cJ23_put_2 49 = .ok (.iload 5, 2) := dk_21 5 (dk_at dksJ23_put_2_2 2 rfl rfl)
theorem dJ23_put_2_51 : decode cJ23_put_2 51 = .ok (.ifCond .ge 13, 3) := dk_156 0 13 (dk_at dksJ23_put_2_2 4 rfl rfl)
theorem dJ23_put_2_54 : decode cJ23_put_2 54 = .ok (.aload 4, 2) := dk_25 4 (dk_at dksJ23_put_2_2 7 rfl rfl)
theorem dJ23_put_2_56 : decode cJ23_put_2 56 = .ok (.getfield 111, 3) := dk_180 0 111 (dk_at dksJ23_put_2_2 9 rfl rfl)
theorem dJ23_put_2_59 : decode cJ23_put_2 59 = .ok (.astore 4, 2) := dk_58 4 (dk_at dksJ23_put_2_2 12 rfl rfl)
theorem dJ23_put_2_61 : decode cJ23_put_2 61 = .ok (.goto 43, 3) := dk_167 0 43 (dk_at dksJ23_put_2_2 14 rfl rfl)
theorem dJ23_put_2_64 : decode cJ23_put_2 64 = .ok (.iload 5, 2) := dk_21 5 (dk_at dksJ23_put_2_2 17 rfl rfl)
theorem dJ23_put_2_66 : decode cJ23_put_2 66 = .ok (.ifCond .le 13, 3) := dk_158 0 13 (dk_at dksJ23_put_2_2 19 rfl rfl)
theorem dJ23_put_2_69 : decode cJ23_put_2 69 = .ok (.aload 4, 2) := dk_25 4 (dk_at dksJ23_put_2_2 22 rfl rfl)
theorem dJ23_put_2_71 : decode cJ23_put_2 71 = .ok (.getfield 114, 3) := dk_180 0 114 (dk_at dksJ23_put_2_3 0 rfl rfl)
theorem dJ23_put_2_74 : decode cJ23_put_2 74 = .ok (.astore 4, 2) := dk_58 4 (dk_at dksJ23_put_2_3 3 rfl rfl)
theorem dJ23_put_2_76 : decode cJ23_put_2 76 = .ok (.goto 28, 3) := dk_167 0 28 (dk_at dksJ23_put_2_3 5 rfl rfl)
theorem dJ23_put_2_79 : decode cJ23_put_2 79 = .ok (.aload 4, 2) := dk_25 4 (dk_at dksJ23_put_2_3 8 rfl rfl)
theorem dJ23_put_2_81 : decode cJ23_put_2 81 = .ok (.getfield 58, 3) := dk_180 0 58 (dk_at dksJ23_put_2_3 10 rfl rfl)
theorem dJ23_put_2_84 : decode cJ23_put_2 84 = .ok (.astore 8, 2) := dk_58 8 (dk_at dksJ23_put_2_3 13 rfl rfl)
theorem dJ23_put_2_86 : decode cJ23_put_2 86 = .ok (.iload_n 3, 1) := dk_29 (dk_at dksJ23_put_2_3 15 rfl rfl)
theorem dJ23_put_2_87 : decode cJ23_put_2 87 = .ok (.ifCond .ne 8, 3) := dk_154 0 8 (dk_at dksJ23_put_2_3 16 rfl rfl)
theorem dJ23_put_2_90 : decode cJ23_put_2 90 = .ok (.aload 8, 2) := dk_25 8 (dk_at dksJ23_put_2_3 19 rfl rfl)
theorem dJ23_put_2_92 : decode cJ23_put_2 92 = .ok (.ifnonnull 9, 3) := dk_199 0 9 (dk_at dksJ23_put_2_3 21 rfl rfl)
theorem dJ23_put_2_95 : decode cJ23_put_2 95 = .ok (.aload 4, 2) := dk_25 4 (dk_at dksJ23_put_2_4 0 rfl rfl)
theorem dJ23_put_2_97 : decode cJ23_put_2 97 = .ok (.aload_n 2, 1) := dk_44 (dk_at dksJ23_put_2_4 2 rfl rfl)
theorem dJ23_put_2_98 : decode cJ23_put_2 98 = .ok (.putfield 58, 3) := dk_181 0 58 (dk_at dksJ23_put_2_4 3 rfl rfl)
theorem dJ23_put_2_101 : decode cJ23_put_2 101 = .ok (.aload 8, 2) := dk_25 8 (dk_at dksJ23_put_2_4 6 rfl rfl)
theorem dJ23_put_2_103 : decode cJ23_put_2 103 = .ok (.areturn, 1) := dk_176 (dk_at dksJ23_put_2_4 8 rfl rfl)
theorem dJ23_put_2_104 : decode cJ23_put_2 104 = .ok (.aload 4, 2) := dk_25 4 (dk_at dksJ23_put_2_4 9 rfl rfl)
theorem dJ23_put_2_106 : decode cJ23_put_2 106 = .ok (.ifnonnull (-76), 3) := dk_199 255 180 (dk_at dksJ23_put_2_4 11 rfl rfl)
theorem dJ23_put_2_109 : decode cJ23_put_2 109 = .ok (.goto 92, 3) := dk_167 0 92 (dk_at dksJ23_put_2_4 14 rfl rfl)
theorem dJ23_put_2_112 : decode cJ23_put_2 112 = .ok (.aload_n 1, 1) := dk_43 (dk_at dksJ23_put_2_4 17 rfl rfl)
theorem dJ23_put_2_113 : decode cJ23_put_2 113 = .ok (.invokestatic 95, 3) := dk_184 0 95 (dk_at dksJ23_put_2_4 18 rfl rfl)
theorem dJ23_put_2_116 : decode cJ23_put_2 116 = .ok (.pop, 1) := dk_87 (dk_at dksJ23_put_2_4 21 rfl rfl)
theorem dJ23_put_2_117 : decode cJ23_put_2 117 = .ok (.aload_n 1, 1) := dk_43 (dk_at dksJ23_put_2_4 22 rfl rfl)
theorem dJ23_put_2_118 : decode cJ23_put_2 118 = .ok (.checkcast 99, 3) := dk_192 0 99 (dk_at dksJ23_put_2_5 0 rfl rfl)
theorem dJ23_put_2_121 : decode cJ23_put_2 121 = .ok (.astore 8, 2) := dk_58 8 (dk_at dksJ23_put_2_5 3 rfl rfl)
theorem dJ23_put_2_123 : decode cJ23_put_2 123 = .ok (.aload 4, 2) := dk_25 4 (dk_at dksJ23_put_2_5 5 rfl rfl)
theorem dJ23_put_2_125 : decode cJ23_put_2 125 = .ok (.astore 6, 2) := dk_58 6 (dk_at dksJ23_put_2_5 7 rfl rfl)
theorem dJ23_put_2_127 : decode cJ23_put_2 127 = .ok (.aload 8, 2) := dk_25 8 (dk_at dksJ23_put_2_5 9 rfl rfl)
theorem dJ23_put_2_129 : decode cJ23_put_2 129 = .ok (.aload 4, 2) := dk_25 4 (dk_at dksJ23_put_2_5 11 rfl rfl)
theorem dJ23_put_2_131 : decode cJ23_put_2 131 = .ok (.getfield 105, 3) := dk_180 0 105 (dk_at dksJ23_put_2_5 13 rfl rfl)
theorem dJ23_put_2_134 : decode cJ23_put_2 134 = .ok (.invokeinterface 107 2, 5) := by decide +kernel
theorem dJ23_put_2_139 : decode cJ23_put_2 139 = .ok (.istore 5, 2) := dk_54 5 (dk_at dksJ23_put_2_5 21 rfl rfl)
theorem dJ23_put_2_141 : decode cJ23_put_2 141 = .ok (.iload 5, 2) := dk_21 5 (dk_at dksJ23_put_2_6 0 rfl rfl)
theorem dJ23_put_2_143 : decode cJ23_put_2 143 = .ok (.ifCond .ge 13, 3) := dk_156 0 13 (dk_at dksJ23_put_2_6 2 rfl rfl)
theorem dJ23_put_2_146 : decode cJ23_put_2 146 = .ok (.aload 4, 2) := dk_25 4 (dk_at dksJ23_put_2_6 5 rfl rfl)
theorem dJ23_put_2_148 : decode cJ23_put_2 148 = .ok (.getfield 111, 3) := dk_180 0 111 (dk_at dksJ23_put_2_6 7 rfl rfl)
theorem dJ23_put_2_151 : decode cJ23_put_2 151 = .ok (.astore 4, 2) := dk_58 4 (dk_at dksJ23_put_2_6 10 rfl rfl)
theorem dJ23_put_2_153 : decode cJ23_put_2 153 = .ok (.goto 43, 3) := dk_167 0 43 (dk_at dksJ23_put_2_6 12 rfl rfl)
theorem dJ23_put_2_156 : decode cJ23_put_2 156 = .ok (.iload 5, 2) := dk_21 5 (dk_at dksJ23_put_2_6 15 rfl rfl)
theorem dJ23_put_2_158 : decode cJ23_put_2 158 = .ok (.ifCond .le 13, 3) := dk_158 0 13 (dk_at dksJ23_put_2_6 17 rfl rfl)
theorem dJ23_put_2_161 : decode cJ23_put_2 161 = .ok (.aload 4, 2) := dk_25 4 (dk_at dksJ23_put_2_6 20 rfl rfl)
theorem dJ23_put_2_163 : decode cJ23_put_2 163 = .ok (.getfield 114, 3) := dk_180 0 114 (dk_at dksJ23_put_2_7 0 rfl rfl)
theorem dJ23_put_2_166 : decode cJ23_put_2 166 = .ok (.astore 4, 2) := dk_58 4 (dk_at dksJ23_put_2_7 3 rfl rfl)
theorem dJ23_put_2_168 : decode cJ23_put_2 168 = .ok (.goto 28, 3) := dk_167 0 28 (dk_at dksJ23_put_2_7 5 rfl rfl)
theorem dJ23_put_2_171 : decode cJ23_put_2 171 = .ok (.aload 4, 2) := dk_25 4 (dk_at dksJ23_put_2_7 8 rfl rfl)
theorem dJ23_put_2_173 : decode cJ23_put_2 173 = .ok (.getfield 58, 3) := dk_180 0 58 (dk_at dksJ23_put_2_7 10 rfl rfl)
theorem dJ23_put_2_176 : decode cJ23_put_2 176 = .ok (.astore 9, 2) := dk_58 9 (dk_at dksJ23_put_2_7 13 rfl rfl)
theorem dJ23_put_2_178 : decode cJ23_put_2 178 = .ok (.iload_n 3, 1) := dk_29 (dk_at dksJ23_put_2_7 15 rfl rfl)
theorem dJ23_put_2_179 : decode cJ23_put_2 179 = .ok (.ifCond .ne 8, 3) := dk_154 0 8 (dk_at dksJ23_put_2_7 16 rfl rfl)
theorem dJ23_put_2_182 : decode cJ23_put_2 182 = .ok (.aload 9, 2) := dk_25 9 (dk_at dksJ23_put_2_7 19 rfl rfl)
theorem dJ23_put_2_184 : decode cJ23_put_2 184 = .ok (.ifnonnull 9, 3) := dk_199 0 9 (dk_at dksJ23_put_2_7 21 rfl rfl)
theorem dJ23_put_2_187 : decode cJ23_put_2 187 = .ok (.aload 4, 2) := dk_25 4 (dk_at dksJ23_put_2_8 0 rfl rfl)
theorem dJ23_put_2_189 : decode cJ23_put_2 189 = .ok (.aload_n 2, 1) := dk_44 (dk_at dksJ23_put_2_8 2 rfl rfl)
theorem dJ23_put_2_190 : decode cJ23_put_2 190 = .ok (.putfield 58, 3) := dk_181 0 58 (dk_at dksJ23_put_2_8 3 rfl rfl)
theorem dJ23_put_2_193 : decode cJ23_put_2 193 = .ok (.aload 9, 2) := dk_25 9 (dk_at dksJ23_put_2_8 6 rfl rfl)
theorem dJ23_put_2_195 : decode cJ23_put_2 195 = .ok (.areturn, 1) := dk_176 (dk_at dksJ23_put_2_8 8 rfl rfl)
theorem dJ23_put_2_196 : decode cJ23_put_2 196 = .ok (.aload 4, 2) := dk_25 4 (dk_at dksJ23_put_2_8 9 rfl rfl)
theorem dJ23_put_2_198 : decode cJ23_put_2 198 = .ok (.ifnonnull (-75), 3) := dk_199 255 181 (dk_at dksJ23_put_2_8 11 rfl rfl)
theorem dJ23_put_2_201 : decode cJ23_put_2 201 = .ok (.aload_n 0, 1) := dk_42 (dk_at dksJ23_put_2_8 14 rfl rfl)
theorem dJ23_put_2_202 : decode cJ23_put_2 202 = .ok (.aload_n 1, 1) := dk_43 (dk_at dksJ23_put_2_8 15 rfl rfl)
theorem dJ23_put_2_203 : decode cJ23_put_2 203 = .ok (.aload_n 2, 1) := dk_44 (dk_at dksJ23_put_2_8 16 rfl rfl)
theorem dJ23_put_2_204 : decode cJ23_put_2 204 = .ok (.aload 6, 2) := dk_25 6 (dk_at dksJ23_put_2_8 17 rfl rfl)
theorem dJ23_put_2_206 : decode cJ23_put_2 206 = .ok (.iload 5, 2) := dk_21 5 (dk_at dksJ23_put_2_8 19 rfl rfl)
theorem dJ23_put_2_208 : decode cJ23_put_2 208 = .ok (.ifCond .ge 7, 3) := dk_156 0 7 (dk_at dksJ23_put_2_8 21 rfl rfl)
theorem dJ23_put_2_211 : decode cJ23_put_2 211 = .ok (.iconst 1, 1) := dk_4 (dk_at dksJ23_put_2_9 0 rfl rfl)
theorem dJ23_put_2_212 : decode cJ23_put_2 212 = .ok (.goto 4, 3) := dk_167 0 4 (dk_at dksJ23_put_2_9 1 rfl rfl)
theorem dJ23_put_2_215 : decode cJ23_put_2 215 = .ok (.iconst 0, 1) := dk_3 (dk_at dksJ23_put_2_9 4 rfl rfl)
theorem dJ23_put_2_216 : decode cJ23_put_2 216 = .ok (.invokevirtual 139, 3) := dk_182 0 139 (dk_at dksJ23_put_2_9 5 rfl rfl)
theorem dJ23_put_2_219 : decode cJ23_put_2 219 = .ok (.aconst_null, 1) := dk_1 (dk_at dksJ23_put_2_9 8 rfl rfl)
theorem dJ23_put_2_220 : decode cJ23_put_2 220 = .ok (.areturn, 1) := dk_176 (dk_at dksJ23_put_2_9 9 rfl rfl)
abbrev cJ23_addEntryToEmptyMap : ByteArray := prog_83_method_30_code
def yJ23_addEntryToEmptyMap : MethodName := ⟨RJ23, "addEntryToEmptyMap", "(Ljava/lang/Object;Ljava/lang/Object;)V"⟩
def dkwJ23_addEntryToEmptyMap_1 : List UInt8 := [181, 0, 7, 42, 89, 180, 0, 13, 4, 96, 181, 0, 13, 177]
abbrev dktJ23_addEntryToEmptyMap_1 : List UInt8 := dkwJ23_addEntryToEmptyMap_1 ++ []
def dkwJ23_addEntryToEmptyMap_0 : List UInt8 := [42, 43, 43, 182, 0, 123, 87, 42, 187, 0, 59, 89, 43, 44, 1, 183, 0, 167, 181, 0, 101, 42, 4]
abbrev dktJ23_addEntryToEmptyMap_0 : List UInt8 := dkwJ23_addEntryToEmptyMap_0 ++ dktJ23_addEntryToEmptyMap_1
theorem dksJ23_addEntryToEmptyMap_0 : cJ23_addEntryToEmptyMap.data.toList.drop 0 = dktJ23_addEntryToEmptyMap_0 := by decide +kernel
theorem dksJ23_addEntryToEmptyMap_1 : cJ23_addEntryToEmptyMap.data.toList.drop 23 = dktJ23_addEntryToEmptyMap_1 := dk_seg dksJ23_addEntryToEmptyMap_0 23 rfl rfl
theorem dJ23_addEntryToEmptyMap_0 : decode cJ23_addEntryToEmptyMap 0 = .ok (.aload_n 0, 1) := dk_42 (dk_at dksJ23_addEntryToEmptyMap_0 0 rfl rfl)
theorem dJ23_addEntryToEmptyMap_1 : decode cJ23_addEntryToEmptyMap 1 = .ok (.aload_n 1, 1) := dk_43 (dk_at dksJ23_addEntryToEmptyMap_0 1 rfl rfl)
theorem dJ23_addEntryToEmptyMap_2 : decode cJ23_addEntryToEmptyMap 2 = .ok (.aload_n 1, 1) := dk_43 (dk_at dksJ23_addEntryToEmptyMap_0 2 rfl rfl)
theorem dJ23_addEntryToEmptyMap_3 : decode cJ23_addEntryToEmptyMap 3 = .ok (.invokevirtual 123, 3) := dk_182 0 123 (dk_at dksJ23_addEntryToEmptyMap_0 3 rfl rfl)
theorem dJ23_addEntryToEmptyMap_6 : decode cJ23_addEntryToEmptyMap 6 = .ok (.pop, 1) := dk_87 (dk_at dksJ23_addEntryToEmptyMap_0 6 rfl rfl)
theorem dJ23_addEntryToEmptyMap_7 : decode cJ23_addEntryToEmptyMap 7 = .ok (.aload_n 0, 1) := dk_42 (dk_at dksJ23_addEntryToEmptyMap_0 7 rfl rfl)
theorem dJ23_addEntryToEmptyMap_8 : decode cJ23_addEntryToEmptyMap 8 = .ok (.new 59, 3) := dk_187 0 59 (dk_at dksJ23_addEntryToEmptyMap_0 8 rfl rfl)
theorem dJ23_addEntryToEmptyMap_11 : decode cJ23_addEntryToEmptyMap 11 = .ok (.dup, 1) := dk_89 (dk_at dksJ23_addEntryToEmptyMap_0 11 rfl rfl)
theorem dJ23_addEntryToEmptyMap_12 : decode cJ23_addEntryToEmptyMap 12 = .ok (.aload_n 1, 1) := dk_43 (dk_at dksJ23_addEntryToEmptyMap_0 12 rfl rfl)
theorem dJ23_addEntryToEmptyMap_13 : decode cJ23_addEntryToEmptyMap 13 = .ok (.aload_n 2, 1) := dk_44 (dk_at dksJ23_addEntryToEmptyMap_0 13 rfl rfl)
theorem dJ23_addEntryToEmptyMap_14 : decode cJ23_addEntryToEmptyMap 14 = .ok (.aconst_null, 1) := dk_1 (dk_at dksJ23_addEntryToEmptyMap_0 14 rfl rfl)
theorem dJ23_addEntryToEmptyMap_15 : decode cJ23_addEntryToEmptyMap 15 = .ok (.invokespecial 167, 3) := dk_183 0 167 (dk_at dksJ23_addEntryToEmptyMap_0 15 rfl rfl)
theorem dJ23_addEntryToEmptyMap_18 : decode cJ23_addEntryToEmptyMap 18 = .ok (.putfield 101, 3) := dk_181 0 101 (dk_at dksJ23_addEntryToEmptyMap_0 18 rfl rfl)
theorem dJ23_addEntryToEmptyMap_21 : decode cJ23_addEntryToEmptyMap 21 = .ok (.aload_n 0, 1) := dk_42 (dk_at dksJ23_addEntryToEmptyMap_0 21 rfl rfl)
theorem dJ23_addEntryToEmptyMap_22 : decode cJ23_addEntryToEmptyMap 22 = .ok (.iconst 1, 1) := dk_4 (dk_at dksJ23_addEntryToEmptyMap_0 22 rfl rfl)
theorem dJ23_addEntryToEmptyMap_23 : decode cJ23_addEntryToEmptyMap 23 = .ok (.putfield 7, 3) := dk_181 0 7 (dk_at dksJ23_addEntryToEmptyMap_1 0 rfl rfl)
theorem dJ23_addEntryToEmptyMap_26 : decode cJ23_addEntryToEmptyMap 26 = .ok (.aload_n 0, 1) := dk_42 (dk_at dksJ23_addEntryToEmptyMap_1 3 rfl rfl)
theorem dJ23_addEntryToEmptyMap_27 : decode cJ23_addEntryToEmptyMap 27 = .ok (.dup, 1) := dk_89 (dk_at dksJ23_addEntryToEmptyMap_1 4 rfl rfl)
theorem dJ23_addEntryToEmptyMap_28 : decode cJ23_addEntryToEmptyMap 28 = .ok (.getfield 13, 3) := dk_180 0 13 (dk_at dksJ23_addEntryToEmptyMap_1 5 rfl rfl)
theorem dJ23_addEntryToEmptyMap_31 : decode cJ23_addEntryToEmptyMap 31 = .ok (.iconst 1, 1) := dk_4 (dk_at dksJ23_addEntryToEmptyMap_1 8 rfl rfl)
theorem dJ23_addEntryToEmptyMap_32 : decode cJ23_addEntryToEmptyMap 32 = .ok (.iadd, 1) := dk_96 (dk_at dksJ23_addEntryToEmptyMap_1 9 rfl rfl)
theorem dJ23_addEntryToEmptyMap_33 : decode cJ23_addEntryToEmptyMap 33 = .ok (.putfield 13, 3) := dk_181 0 13 (dk_at dksJ23_addEntryToEmptyMap_1 10 rfl rfl)
theorem dJ23_addEntryToEmptyMap_36 : decode cJ23_addEntryToEmptyMap 36 = .ok (.return_, 1) := dk_177 (dk_at dksJ23_addEntryToEmptyMap_1 13 rfl rfl)
abbrev cJ23_compare : ByteArray := prog_83_method_67_code
def yJ23_compare : MethodName := ⟨RJ23, "compare", "(Ljava/lang/Object;Ljava/lang/Object;)I"⟩
def dkwJ23_compare_1 : List UInt8 := [43, 44, 185, 0, 117, 3, 0, 172]
abbrev dktJ23_compare_1 : List UInt8 := dkwJ23_compare_1 ++ []
def dkwJ23_compare_0 : List UInt8 := [42, 180, 0, 16, 199, 0, 16, 43, 192, 0, 99, 44, 185, 0, 107, 2, 0, 167, 0, 14, 42, 180, 0, 16]
abbrev dktJ23_compare_0 : List UInt8 := dkwJ23_compare_0 ++ dktJ23_compare_1
theorem dksJ23_compare_0 : cJ23_compare.data.toList.drop 0 = dktJ23_compare_0 := by decide +kernel
theorem dksJ23_compare_1 : cJ23_compare.data.toList.drop 24 = dktJ23_compare_1 := dk_seg dksJ23_compare_0 24 rfl rfl
theorem dJ23_compare_0 : decode cJ23_compare 0 = .ok (.aload_n 0, 1) := dk_42 (dk_at dksJ23_compare_0 0 rfl rfl)
theorem dJ23_compare_1 : decode cJ23_compare 1 = .ok (.getfield 16, 3) := dk_180 0 16 (dk_at dksJ23_compare_0 1 rfl rfl)
theorem dJ23_compare_4 : decode cJ23_compare 4 = .ok (.ifnonnull 16, 3) := dk_199 0 16 (dk_at dksJ23_compare_0 4 rfl rfl)
theorem dJ23_compare_7 : decode cJ23_compare 7 = .ok (.aload_n 1, 1) := dk_43 (dk_at dksJ23_compare_0 7 rfl rfl)
theorem dJ23_compare_8 : decode cJ23_compare 8 = .ok (.checkcast 99, 3) := dk_192 0 99 (dk_at dksJ23_compare_0 8 rfl rfl)
theorem dJ23_compare_11 : decode cJ23_compare 11 = .ok (.aload_n 2, 1) := dk_44 (dk_at dksJ23_compare_0 11 rfl rfl)
theorem dJ23_compare_12 : decode cJ23_compare 12 = .ok (.invokeinterface 107 2, 5) := by decide +kernel
theorem dJ23_compare_17 : decode cJ23_compare 17 = .ok (.goto 14, 3) := dk_167 0 14 (dk_at dksJ23_compare_0 17 rfl rfl)
theorem dJ23_compare_20 : decode cJ23_compare 20 = .ok (.aload_n 0, 1) := dk_42 (dk_at dksJ23_compare_0 20 rfl rfl)
theorem dJ23_compare_21 : decode cJ23_compare 21 = .ok (.getfield 16, 3) := dk_180 0 16 (dk_at dksJ23_compare_0 21 rfl rfl)
theorem dJ23_compare_24 : decode cJ23_compare 24 = .ok (.aload_n 1, 1) := dk_43 (dk_at dksJ23_compare_1 0 rfl rfl)
theorem dJ23_compare_25 : decode cJ23_compare 25 = .ok (.aload_n 2, 1) := dk_44 (dk_at dksJ23_compare_1 1 rfl rfl)
theorem dJ23_compare_26 : decode cJ23_compare 26 = .ok (.invokeinterface 117 3, 5) := by decide +kernel
theorem dJ23_compare_31 : decode cJ23_compare 31 = .ok (.ireturn, 1) := dk_172 (dk_at dksJ23_compare_1 7 rfl rfl)
abbrev cJ23_addEntry : ByteArray := prog_83_method_29_code
def yJ23_addEntry : MethodName := ⟨RJ23, "addEntry", "(Ljava/lang/Object;Ljava/lang/Object;Ljava/util/TreeMap$Entry;Z)V"⟩
def dkwJ23_addEntry_2 : List UInt8 := [181, 0, 7, 42, 89, 180, 0, 13, 4, 96, 181, 0, 13, 177]
abbrev dktJ23_addEntry_2 : List UInt8 := dkwJ23_addEntry_2 ++ []
def dkwJ23_addEntry_1 : List UInt8 := [167, 0, 9, 45, 25, 5, 181, 0, 114, 42, 25, 5, 182, 0, 170, 42, 89, 180, 0, 7, 4, 96]
abbrev dktJ23_addEntry_1 : List UInt8 := dkwJ23_addEntry_1 ++ dktJ23_addEntry_2
def dkwJ23_addEntry_0 : List UInt8 := [187, 0, 59, 89, 43, 44, 45, 183, 0, 167, 58, 5, 21, 4, 153, 0, 12, 45, 25, 5, 181, 0, 111]
abbrev dktJ23_addEntry_0 : List UInt8 := dkwJ23_addEntry_0 ++ dktJ23_addEntry_1
theorem dksJ23_addEntry_0 : cJ23_addEntry.data.toList.drop 0 = dktJ23_addEntry_0 := by decide +kernel
theorem dksJ23_addEntry_1 : cJ23_addEntry.data.toList.drop 23 = dktJ23_addEntry_1 := dk_seg dksJ23_addEntry_0 23 rfl rfl
theorem dksJ23_addEntry_2 : cJ23_addEntry.data.toList.drop 45 = dktJ23_addEntry_2 := dk_seg dksJ23_addEntry_1 22 rfl rfl
theorem dJ23_addEntry_0 : decode cJ23_addEntry 0 = .ok (.new 59, 3) := dk_187 0 59 (dk_at dksJ23_addEntry_0 0 rfl rfl)
theorem dJ23_addEntry_3 : decode cJ23_addEntry 3 = .ok (.dup, 1) := dk_89 (dk_at dksJ23_addEntry_0 3 rfl rfl)
theorem dJ23_addEntry_4 : decode cJ23_addEntry 4 = .ok (.aload_n 1, 1) := dk_43 (dk_at dksJ23_addEntry_0 4 rfl rfl)
theorem dJ23_addEntry_5 : decode cJ23_addEntry 5 = .ok (.aload_n 2, 1) := dk_44 (dk_at dksJ23_addEntry_0 5 rfl rfl)
theorem dJ23_addEntry_6 : decode cJ23_addEntry 6 = .ok (.aload_n 3, 1) := dk_45 (dk_at dksJ23_addEntry_0 6 rfl rfl)
theorem dJ23_addEntry_7 : decode cJ23_addEntry 7 = .ok (.invokespecial 167, 3) := dk_183 0 167 (dk_at dksJ23_addEntry_0 7 rfl rfl)
theorem dJ23_addEntry_10 : decode cJ23_addEntry 10 = .ok (.astore 5, 2) := dk_58 5 (dk_at dksJ23_addEntry_0 10 rfl rfl)
theorem dJ23_addEntry_12 : decode cJ23_addEntry 12 = .ok (.iload 4, 2) := dk_21 4 (dk_at dksJ23_addEntry_0 12 rfl rfl)
theorem dJ23_addEntry_14 : decode cJ23_addEntry 14 = .ok (.ifCond .eq 12, 3) := dk_153 0 12 (dk_at dksJ23_addEntry_0 14 rfl rfl)
theorem dJ23_addEntry_17 : decode cJ23_addEntry 17 = .ok (.aload_n 3, 1) := dk_45 (dk_at dksJ23_addEntry_0 17 rfl rfl)
theorem dJ23_addEntry_18 : decode cJ23_addEntry 18 = .ok (.aload 5, 2) := dk_25 5 (dk_at dksJ23_addEntry_0 18 rfl rfl)
theorem dJ23_addEntry_20 : decode cJ23_addEntry 20 = .ok (.putfield 111, 3) := dk_181 0 111 (dk_at dksJ23_addEntry_0 20 rfl rfl)
theorem dJ23_addEntry_23 : decode cJ23_addEntry 23 = .ok (.goto 9, 3) := dk_167 0 9 (dk_at dksJ23_addEntry_1 0 rfl rfl)
theorem dJ23_addEntry_26 : decode cJ23_addEntry 26 = .ok (.aload_n 3, 1) := dk_45 (dk_at dksJ23_addEntry_1 3 rfl rfl)
theorem dJ23_addEntry_27 : decode cJ23_addEntry 27 = .ok (.aload 5, 2) := dk_25 5 (dk_at dksJ23_addEntry_1 4 rfl rfl)
theorem dJ23_addEntry_29 : decode cJ23_addEntry 29 = .ok (.putfield 114, 3) := dk_181 0 114 (dk_at dksJ23_addEntry_1 6 rfl rfl)
theorem dJ23_addEntry_32 : decode cJ23_addEntry 32 = .ok (.aload_n 0, 1) := dk_42 (dk_at dksJ23_addEntry_1 9 rfl rfl)
theorem dJ23_addEntry_33 : decode cJ23_addEntry 33 = .ok (.aload 5, 2) := dk_25 5 (dk_at dksJ23_addEntry_1 10 rfl rfl)
theorem dJ23_addEntry_35 : decode cJ23_addEntry 35 = .ok (.invokevirtual 170, 3) := dk_182 0 170 (dk_at dksJ23_addEntry_1 12 rfl rfl)
theorem dJ23_addEntry_38 : decode cJ23_addEntry 38 = .ok (.aload_n 0, 1) := dk_42 (dk_at dksJ23_addEntry_1 15 rfl rfl)
theorem dJ23_addEntry_39 : decode cJ23_addEntry 39 = .ok (.dup, 1) := dk_89 (dk_at dksJ23_addEntry_1 16 rfl rfl)
theorem dJ23_addEntry_40 : decode cJ23_addEntry 40 = .ok (.getfield 7, 3) := dk_180 0 7 (dk_at dksJ23_addEntry_1 17 rfl rfl)
theorem dJ23_addEntry_43 : decode cJ23_addEntry 43 = .ok (.iconst 1, 1) := dk_4 (dk_at dksJ23_addEntry_1 20 rfl rfl)
theorem dJ23_addEntry_44 : decode cJ23_addEntry 44 = .ok (.iadd, 1) := dk_96 (dk_at dksJ23_addEntry_1 21 rfl rfl)
theorem dJ23_addEntry_45 : decode cJ23_addEntry 45 = .ok (.putfield 7, 3) := dk_181 0 7 (dk_at dksJ23_addEntry_2 0 rfl rfl)
theorem dJ23_addEntry_48 : decode cJ23_addEntry 48 = .ok (.aload_n 0, 1) := dk_42 (dk_at dksJ23_addEntry_2 3 rfl rfl)
theorem dJ23_addEntry_49 : decode cJ23_addEntry 49 = .ok (.dup, 1) := dk_89 (dk_at dksJ23_addEntry_2 4 rfl rfl)
theorem dJ23_addEntry_50 : decode cJ23_addEntry 50 = .ok (.getfield 13, 3) := dk_180 0 13 (dk_at dksJ23_addEntry_2 5 rfl rfl)
theorem dJ23_addEntry_53 : decode cJ23_addEntry 53 = .ok (.iconst 1, 1) := dk_4 (dk_at dksJ23_addEntry_2 8 rfl rfl)
theorem dJ23_addEntry_54 : decode cJ23_addEntry 54 = .ok (.iadd, 1) := dk_96 (dk_at dksJ23_addEntry_2 9 rfl rfl)
theorem dJ23_addEntry_55 : decode cJ23_addEntry 55 = .ok (.putfield 13, 3) := dk_181 0 13 (dk_at dksJ23_addEntry_2 10 rfl rfl)
theorem dJ23_addEntry_58 : decode cJ23_addEntry 58 = .ok (.return_, 1) := dk_177 (dk_at dksJ23_addEntry_2 13 rfl rfl)
abbrev cJ23_fixAfterInsertion : ByteArray := prog_83_method_83_code
def yJ23_fixAfterInsertion : MethodName := ⟨RJ23, "fixAfterInsertion", "(Ljava/util/TreeMap$Entry;)V"⟩
def dkwJ23_fixAfterInsertion_11 : List UInt8 := [42, 180, 0, 101, 4, 181, 1, 34, 177]
abbrev dktJ23_fixAfterInsertion_11 : List UInt8 := dkwJ23_fixAfterInsertion_11 ++ []
def dkwJ23_fixAfterInsertion_10 : List UInt8 := [184, 1, 38, 184, 1, 38, 3, 184, 1, 51, 42, 43, 184, 1, 38, 184, 1, 38, 182, 1, 55, 167, 255, 6]
abbrev dktJ23_fixAfterInsertion_10 : List UInt8 := dkwJ23_fixAfterInsertion_10 ++ dktJ23_fixAfterInsertion_11
def dkwJ23_fixAfterInsertion_9 : List UInt8 := [166, 0, 13, 43, 184, 1, 38, 76, 42, 43, 182, 1, 58, 43, 184, 1, 38, 4, 184, 1, 51, 43]
abbrev dktJ23_fixAfterInsertion_9 : List UInt8 := dkwJ23_fixAfterInsertion_9 ++ dktJ23_fixAfterInsertion_10
def dkwJ23_fixAfterInsertion_8 : List UInt8 := [184, 1, 51, 43, 184, 1, 38, 184, 1, 38, 76, 167, 0, 54, 43, 43, 184, 1, 38, 184, 1, 41]
abbrev dktJ23_fixAfterInsertion_8 : List UInt8 := dkwJ23_fixAfterInsertion_8 ++ dktJ23_fixAfterInsertion_9
def dkwJ23_fixAfterInsertion_7 : List UInt8 := [154, 0, 38, 43, 184, 1, 38, 4, 184, 1, 51, 44, 4, 184, 1, 51, 43, 184, 1, 38, 184, 1, 38, 3]
abbrev dktJ23_fixAfterInsertion_7 : List UInt8 := dkwJ23_fixAfterInsertion_7 ++ dktJ23_fixAfterInsertion_8
def dkwJ23_fixAfterInsertion_6 : List UInt8 := [184, 1, 38, 182, 1, 58, 167, 255, 113, 43, 184, 1, 38, 184, 1, 38, 184, 1, 41, 77, 44, 184, 1, 47]
abbrev dktJ23_fixAfterInsertion_6 : List UInt8 := dkwJ23_fixAfterInsertion_6 ++ dktJ23_fixAfterInsertion_7
def dkwJ23_fixAfterInsertion_5 : List UInt8 := [43, 184, 1, 38, 4, 184, 1, 51, 43, 184, 1, 38, 184, 1, 38, 3, 184, 1, 51, 42, 43, 184, 1, 38]
abbrev dktJ23_fixAfterInsertion_5 : List UInt8 := dkwJ23_fixAfterInsertion_5 ++ dktJ23_fixAfterInsertion_6
def dkwJ23_fixAfterInsertion_4 : List UInt8 := [167, 0, 54, 43, 43, 184, 1, 38, 184, 1, 44, 166, 0, 13, 43, 184, 1, 38, 76, 42, 43, 182, 1, 55]
abbrev dktJ23_fixAfterInsertion_4 : List UInt8 := dkwJ23_fixAfterInsertion_4 ++ dktJ23_fixAfterInsertion_5
def dkwJ23_fixAfterInsertion_3 : List UInt8 := [184, 1, 51, 43, 184, 1, 38, 184, 1, 38, 3, 184, 1, 51, 43, 184, 1, 38, 184, 1, 38, 76]
abbrev dktJ23_fixAfterInsertion_3 : List UInt8 := dkwJ23_fixAfterInsertion_3 ++ dktJ23_fixAfterInsertion_4
def dkwJ23_fixAfterInsertion_2 : List UInt8 := [184, 1, 38, 184, 1, 44, 77, 44, 184, 1, 47, 154, 0, 38, 43, 184, 1, 38, 4, 184, 1, 51, 44, 4]
abbrev dktJ23_fixAfterInsertion_2 : List UInt8 := dkwJ23_fixAfterInsertion_2 ++ dktJ23_fixAfterInsertion_3
def dkwJ23_fixAfterInsertion_1 : List UInt8 := [154, 0, 234, 43, 184, 1, 38, 43, 184, 1, 38, 184, 1, 38, 184, 1, 41, 166, 0, 110, 43, 184, 1, 38]
abbrev dktJ23_fixAfterInsertion_1 : List UInt8 := dkwJ23_fixAfterInsertion_1 ++ dktJ23_fixAfterInsertion_2
def dkwJ23_fixAfterInsertion_0 : List UInt8 := [43, 3, 181, 1, 34, 43, 198, 0, 252, 43, 42, 180, 0, 101, 165, 0, 244, 43, 180, 0, 124, 180, 1, 34]
abbrev dktJ23_fixAfterInsertion_0 : List UInt8 := dkwJ23_fixAfterInsertion_0 ++ dktJ23_fixAfterInsertion_1
theorem dksJ23_fixAfterInsertion_0 : cJ23_fixAfterInsertion.data.toList.drop 0 = dktJ23_fixAfterInsertion_0 := by decide +kernel
theorem dksJ23_fixAfterInsertion_1 : cJ23_fixAfterInsertion.data.toList.drop 24 = dktJ23_fixAfterInsertion_1 := dk_seg dksJ23_fixAfterInsertion_0 24 rfl rfl
theorem dksJ23_fixAfterInsertion_2 : cJ23_fixAfterInsertion.data.toList.drop 48 = dktJ23_fixAfterInsertion_2 := dk_seg dksJ23_fixAfterInsertion_1 24 rfl rfl
theorem dksJ23_fixAfterInsertion_3 : cJ23_fixAfterInsertion.data.toList.drop 72 = dktJ23_fixAfterInsertion_3 := dk_seg dksJ23_fixAfterInsertion_2 24 rfl rfl
theorem dksJ23_fixAfterInsertion_4 : cJ23_fixAfterInsertion.data.toList.drop 94 = dktJ23_fixAfterInsertion_4 := dk_seg dksJ23_fixAfterInsertion_3 22 rfl rfl
theorem dksJ23_fixAfterInsertion_5 : cJ23_fixAfterInsertion.data.toList.drop 118 = dktJ23_fixAfterInsertion_5 := dk_seg dksJ23_fixAfterInsertion_4 24 rfl rfl
theorem dksJ23_fixAfterInsertion_6 : cJ23_fixAfterInsertion.data.toList.drop 142 = dktJ23_fixAfterInsertion_6 := dk_seg dksJ23_fixAfterInsertion_5 24 rfl rfl
theorem dksJ23_fixAfterInsertion_7 : cJ23_fixAfterInsertion.data.toList.drop 166 = dktJ23_fixAfterInsertion_7 := dk_seg dksJ23_fixAfterInsertion_6 24 rfl rfl
theorem dksJ23_fixAfterInsertion_8 : cJ23_fixAfterInsertion.data.toList.drop 190 = dktJ23_fixAfterInsertion_8 := dk_seg dksJ23_fixAfterInsertion_7 24 rfl rfl
theorem dksJ23_fixAfterInsertion_9 : cJ23_fixAfterInsertion.data.toList.drop 212 = dktJ23_fixAfterInsertion_9 := dk_seg dksJ23_fixAfterInsertion_8 22 rfl rfl
theorem dksJ23_fixAfterInsertion_10 : cJ23_fixAfterInsertion.data.toList.drop 234 = dktJ23_fixAfterInsertion_10 := dk_seg dksJ23_fixAfterInsertion_9 22 rfl rfl
theorem dksJ23_fixAfterInsertion_11 : cJ23_fixAfterInsertion.data.toList.drop 258 = dktJ23_fixAfterInsertion_11 := dk_seg dksJ23_fixAfterInsertion_10 24 rfl rfl
theorem dJ23_fixAfterInsertion_0 : decode cJ23_fixAfterInsertion 0 = .ok (.aload_n 1, 1) := dk_43 (dk_at dksJ23_fixAfterInsertion_0 0 rfl rfl)
theorem dJ23_fixAfterInsertion_1 : decode cJ23_fixAfterInsertion 1 = .ok (.iconst 0, 1) := dk_3 (dk_at dksJ23_fixAfterInsertion_0 1 rfl rfl)
theorem dJ23_fixAfterInsertion_2 : decode cJ23_fixAfterInsertion 2 = .ok (.putfield 290, 3) := dk_181 1 34 (dk_at dksJ23_fixAfterInsertion_0 2 rfl rfl)
theorem dJ23_fixAfterInsertion_5 : decode cJ23_fixAfterInsertion 5 = .ok (.aload_n 1, 1) := dk_43 (dk_at dksJ23_fixAfterInsertion_0 5 rfl rfl)
theorem dJ23_fixAfterInsertion_6 : decode cJ23_fixAfterInsertion 6 = .ok (.ifnull 252, 3) := dk_198 0 252 (dk_at dksJ23_fixAfterInsertion_0 6 rfl rfl)
theorem dJ23_fixAfterInsertion_9 : decode cJ23_fixAfterInsertion 9 = .ok (.aload_n 1, 1) := dk_43 (dk_at dksJ23_fixAfterInsertion_0 9 rfl rfl)
theorem dJ23_fixAfterInsertion_10 : decode cJ23_fixAfterInsertion 10 = .ok (.aload_n 0, 1) := dk_42 (dk_at dksJ23_fixAfterInsertion_0 10 rfl rfl)
theorem dJ23_fixAfterInsertion_11 : decode cJ23_fixAfterInsertion 11 = .ok (.getfield 101, 3) := dk_180 0 101 (dk_at dksJ23_fixAfterInsertion_0 11 rfl rfl)
theorem dJ23_fixAfterInsertion_14 : decode cJ23_fixAfterInsertion 14 = .ok (.if_acmp .eq 244, 3) := dk_165 0 244 (dk_at dksJ23_fixAfterInsertion_0 14 rfl rfl)
theorem dJ23_fixAfterInsertion_17 : decode cJ23_fixAfterInsertion 17 = .ok (.aload_n 1, 1) := dk_43 (dk_at dksJ23_fixAfterInsertion_0 17 rfl rfl)
theorem dJ23_fixAfterInsertion_18 : decode cJ23_fixAfterInsertion 18 = .ok (.getfield 124, 3) := dk_180 0 124 (dk_at dksJ23_fixAfterInsertion_0 18 rfl rfl)
theorem dJ23_fixAfterInsertion_21 : decode cJ23_fixAfterInsertion 21 = .ok (.getfield 290, 3) := dk_180 1 34 (dk_at dksJ23_fixAfterInsertion_0 21 rfl rfl)
theorem dJ23_fixAfterInsertion_24 : decode cJ23_fixAfterInsertion 24 = .ok (.ifCond .ne 234, 3) := dk_154 0 234 (dk_at dksJ23_fixAfterInsertion_1 0 rfl rfl)
theorem dJ23_fixAfterInsertion_27 : decode cJ23_fixAfterInsertion 27 = .ok (.aload_n 1, 1) := dk_43 (dk_at dksJ23_fixAfterInsertion_1 3 rfl rfl)
theorem dJ23_fixAfterInsertion_28 : decode cJ23_fixAfterInsertion 28 = .ok (.invokestatic 294, 3) := dk_184 1 38 (dk_at dksJ23_fixAfterInsertion_1 4 rfl rfl)
theorem dJ23_fixAfterInsertion_31 : decode cJ23_fixAfterInsertion 31 = .ok (.aload_n 1, 1) := dk_43 (dk_at dksJ23_fixAfterInsertion_1 7 rfl rfl)
theorem dJ23_fixAfterInsertion_32 : decode cJ23_fixAfterInsertion 32 = .ok (.invokestatic 294, 3) := dk_184 1 38 (dk_at dksJ23_fixAfterInsertion_1 8 rfl rfl)
theorem dJ23_fixAfterInsertion_35 : decode cJ23_fixAfterInsertion 35 = .ok (.invokestatic 294, 3) := dk_184 1 38 (dk_at dksJ23_fixAfterInsertion_1 11 rfl rfl)
theorem dJ23_fixAfterInsertion_38 : decode cJ23_fixAfterInsertion 38 = .ok (.invokestatic 297, 3) := dk_184 1 41 (dk_at dksJ23_fixAfterInsertion_1 14 rfl rfl)
theorem dJ23_fixAfterInsertion_41 : decode cJ23_fixAfterInsertion 41 = .ok (.if_acmp .ne 110, 3) := dk_166 0 110 (dk_at dksJ23_fixAfterInsertion_1 17 rfl rfl)
theorem dJ23_fixAfterInsertion_44 : decode cJ23_fixAfterInsertion 44 = .ok (.aload_n 1, 1) := dk_43 (dk_at dksJ23_fixAfterInsertion_1 20 rfl rfl)
theorem dJ23_fixAfterInsertion_45 : decode cJ23_fixAfterInsertion 45 = .ok (.invokestatic 294, 3) := dk_184 1 38 (dk_at dksJ23_fixAfterInsertion_1 21 rfl rfl)
theorem dJ23_fixAfterInsertion_48 : decode cJ23_fixAfterInsertion 48 = .ok (.invokestatic 294, 3) := dk_184 1 38 (dk_at dksJ23_fixAfterInsertion_2 0 rfl rfl)
theorem dJ23_fixAfterInsertion_51 : decode cJ23_fixAfterInsertion 51 = .ok (.invokestatic 300, 3) := dk_184 1 44 (dk_at dksJ23_fixAfterInsertion_2 3 rfl rfl)
theorem dJ23_fixAfterInsertion_54 : decode cJ23_fixAfterInsertion 54 = .ok (.astore_n 2, 1) := dk_77 (dk_at dksJ23_fixAfterInsertion_2 6 rfl rfl)
theorem dJ23_fixAfterInsertion_55 : decode cJ23_fixAfterInsertion 55 = .ok (.aload_n 2, 1) := dk_44 (dk_at dksJ23_fixAfterInsertion_2 7 rfl rfl)
theorem dJ23_fixAfterInsertion_56 : decode cJ23_fixAfterInsertion 56 = .ok (.invokestatic 303, 3) := dk_184 1 47 (dk_at dksJ23_fixAfterInsertion_2 8 rfl rfl)
theorem dJ23_fixAfterInsertion_59 : decode cJ23_fixAfterInsertion 59 = .ok (.ifCond .ne 38, 3) := dk_154 0 38 (dk_at dksJ23_fixAfterInsertion_2 11 rfl rfl)
theorem dJ23_fixAfterInsertion_62 : decode cJ23_fixAfterInsertion 62 = .ok (.aload_n 1, 1) := dk_43 (dk_at dksJ23_fixAfterInsertion_2 14 rfl rfl)
theorem dJ23_fixAfterInsertion_63 : decode cJ23_fixAfterInsertion 63 = .ok (.invokestatic 294, 3) := dk_184 1 38 (dk_at dksJ23_fixAfterInsertion_2 15 rfl rfl)
theorem dJ23_fixAfterInsertion_66 : decode cJ23_fixAfterInsertion 66 = .ok (.iconst 1, 1) := dk_4 (dk_at dksJ23_fixAfterInsertion_2 18 rfl rfl)
theorem dJ23_fixAfterInsertion_67 : decode cJ23_fixAfterInsertion 67 = .ok (.invokestatic 307, 3) := dk_184 1 51 (dk_at dksJ23_fixAfterInsertion_2 19 rfl rfl)
theorem dJ23_fixAfterInsertion_70 : decode cJ23_fixAfterInsertion 70 = .ok (.aload_n 2, 1) := dk_44 (dk_at dksJ23_fixAfterInsertion_2 22 rfl rfl)
theorem dJ23_fixAfterInsertion_71 : decode cJ23_fixAfterInsertion 71 = .ok (.iconst 1, 1) := dk_4 (dk_at dksJ23_fixAfterInsertion_2 23 rfl rfl)
theorem dJ23_fixAfterInsertion_72 : decode cJ23_fixAfterInsertion 72 = .ok (.invokestatic 307, 3) := dk_184 1 51 (dk_at dksJ23_fixAfterInsertion_3 0 rfl rfl)
theorem dJ23_fixAfterInsertion_75 : decode cJ23_fixAfterInsertion 75 = .ok (.aload_n 1, 1) := dk_43 (dk_at dksJ23_fixAfterInsertion_3 3 rfl rfl)
theorem dJ23_fixAfterInsertion_76 : decode cJ23_fixAfterInsertion 76 = .ok (.invokestatic 294, 3) := dk_184 1 38 (dk_at dksJ23_fixAfterInsertion_3 4 rfl rfl)
theorem dJ23_fixAfterInsertion_79 : decode cJ23_fixAfterInsertion 79 = .ok (.invokestatic 294, 3) := dk_184 1 38 (dk_at dksJ23_fixAfterInsertion_3 7 rfl rfl)
theorem dJ23_fixAfterInsertion_82 : decode cJ23_fixAfterInsertion 82 = .ok (.iconst 0, 1) := dk_3 (dk_at dksJ23_fixAfterInsertion_3 10 rfl rfl)
theorem dJ23_fixAfterInsertion_83 : decode cJ23_fixAfterInsertion 83 = .ok (.invokestatic 307, 3) := dk_184 1 51 (dk_at dksJ23_fixAfterInsertion_3 11 rfl rfl)
theorem dJ23_fixAfterInsertion_86 : decode cJ23_fixAfterInsertion 86 = .ok (.aload_n 1, 1) := dk_43 (dk_at dksJ23_fixAfterInsertion_3 14 rfl rfl)
theorem dJ23_fixAfterInsertion_87 : decode cJ23_fixAfterInsertion 87 = .ok (.invokestatic 294, 3) := dk_184 1 38 (dk_at dksJ23_fixAfterInsertion_3 15 rfl rfl)
theorem dJ23_fixAfterInsertion_90 : decode cJ23_fixAfterInsertion 90 = .ok (.invokestatic 294, 3) := dk_184 1 38 (dk_at dksJ23_fixAfterInsertion_3 18 rfl rfl)
theorem dJ23_fixAfterInsertion_93 : decode cJ23_fixAfterInsertion 93 = .ok (.astore_n 1, 1) := dk_76 (dk_at dksJ23_fixAfterInsertion_3 21 rfl rfl)
theorem dJ23_fixAfterInsertion_94 : decode cJ23_fixAfterInsertion 94 = .ok (.goto 54, 3) := dk_167 0 54 (dk_at dksJ23_fixAfterInsertion_4 0 rfl rfl)
theorem dJ23_fixAfterInsertion_97 : decode cJ23_fixAfterInsertion 97 = .ok (.aload_n 1, 1) := dk_43 (dk_at dksJ23_fixAfterInsertion_4 3 rfl rfl)
theorem dJ23_fixAfterInsertion_98 : decode cJ23_fixAfterInsertion 98 = .ok (.aload_n 1, 1) := dk_43 (dk_at dksJ23_fixAfterInsertion_4 4 rfl rfl)
theorem dJ23_fixAfterInsertion_99 : decode cJ23_fixAfterInsertion 99 = .ok (.invokestatic 294, 3) := dk_184 1 38 (dk_at dksJ23_fixAfterInsertion_4 5 rfl rfl)
theorem dJ23_fixAfterInsertion_102 : decode cJ23_fixAfterInsertion 102 = .ok (.invokestatic 300, 3) := dk_184 1 44 (dk_at dksJ23_fixAfterInsertion_4 8 rfl rfl)
theorem dJ23_fixAfterInsertion_105 : decode cJ23_fixAfterInsertion 105 = .ok (.if_acmp .ne 13, 3) := dk_166 0 13 (dk_at dksJ23_fixAfterInsertion_4 11 rfl rfl)
theorem dJ23_fixAfterInsertion_108 : decode cJ23_fixAfterInsertion 108 = .ok (.aload_n 1, 1) := dk_43 (dk_at dksJ23_fixAfterInsertion_4 14 rfl rfl)
theorem dJ23_fixAfterInsertion_109 : decode cJ23_fixAfterInsertion 109 = .ok (.invokestatic 294, 3) := dk_184 1 38 (dk_at dksJ23_fixAfterInsertion_4 15 rfl rfl)
theorem dJ23_fixAfterInsertion_112 : decode cJ23_fixAfterInsertion 112 = .ok (.astore_n 1, 1) := dk_76 (dk_at dksJ23_fixAfterInsertion_4 18 rfl rfl)
theorem dJ23_fixAfterInsertion_113 : decode cJ23_fixAfterInsertion 113 = .ok (.aload_n 0, 1) := dk_42 (dk_at dksJ23_fixAfterInsertion_4 19 rfl rfl)
theorem dJ23_fixAfterInsertion_114 : decode cJ23_fixAfterInsertion 114 = .ok (.aload_n 1, 1) := dk_43 (dk_at dksJ23_fixAfterInsertion_4 20 rfl rfl)
theorem dJ23_fixAfterInsertion_115 : decode cJ23_fixAfterInsertion 115 = .ok (.invokevirtual 311, 3) := dk_182 1 55 (dk_at dksJ23_fixAfterInsertion_4 21 rfl rfl)
theorem dJ23_fixAfterInsertion_118 : decode cJ23_fixAfterInsertion 118 = .ok (.aload_n 1, 1) := dk_43 (dk_at dksJ23_fixAfterInsertion_5 0 rfl rfl)
theorem dJ23_fixAfterInsertion_119 : decode cJ23_fixAfterInsertion 119 = .ok (.invokestatic 294, 3) := dk_184 1 38 (dk_at dksJ23_fixAfterInsertion_5 1 rfl rfl)
theorem dJ23_fixAfterInsertion_122 : decode cJ23_fixAfterInsertion 122 = .ok (.iconst 1, 1) := dk_4 (dk_at dksJ23_fixAfterInsertion_5 4 rfl rfl)
theorem dJ23_fixAfterInsertion_123 : decode cJ23_fixAfterInsertion 123 = .ok (.invokestatic 307, 3) := dk_184 1 51 (dk_at dksJ23_fixAfterInsertion_5 5 rfl rfl)
theorem dJ23_fixAfterInsertion_126 : decode cJ23_fixAfterInsertion 126 = .ok (.aload_n 1, 1) := dk_43 (dk_at dksJ23_fixAfterInsertion_5 8 rfl rfl)
theorem dJ23_fixAfterInsertion_127 : decode cJ23_fixAfterInsertion 127 = .ok (.invokestatic 294, 3) := dk_184 1 38 (dk_at dksJ23_fixAfterInsertion_5 9 rfl rfl)
theorem dJ23_fixAfterInsertion_130 : decode cJ23_fixAfterInsertion 130 = .ok (.invokestatic 294, 3) := dk_184 1 38 (dk_at dksJ23_fixAfterInsertion_5 12 rfl rfl)
theorem dJ23_fixAfterInsertion_133 : decode cJ23_fixAfterInsertion 133 = .ok (.iconst 0, 1) := dk_3 (dk_at dksJ23_fixAfterInsertion_5 15 rfl rfl)
theorem dJ23_fixAfterInsertion_134 : decode cJ23_fixAfterInsertion 134 = .ok (.invokestatic 307, 3) := dk_184 1 51 (dk_at dksJ23_fixAfterInsertion_5 16 rfl rfl)
theorem dJ23_fixAfterInsertion_137 : decode cJ23_fixAfterInsertion 137 = .ok (.aload_n 0, 1) := dk_42 (dk_at dksJ23_fixAfterInsertion_5 19 rfl rfl)
theorem dJ23_fixAfterInsertion_138 : decode cJ23_fixAfterInsertion 138 = .ok (.aload_n 1, 1) := dk_43 (dk_at dksJ23_fixAfterInsertion_5 20 rfl rfl)
theorem dJ23_fixAfterInsertion_139 : decode cJ23_fixAfterInsertion 139 = .ok (.invokestatic 294, 3) := dk_184 1 38 (dk_at dksJ23_fixAfterInsertion_5 21 rfl rfl)
theorem dJ23_fixAfterInsertion_142 : decode cJ23_fixAfterInsertion 142 = .ok (.invokestatic 294, 3) := dk_184 1 38 (dk_at dksJ23_fixAfterInsertion_6 0 rfl rfl)
theorem dJ23_fixAfterInsertion_145 : decode cJ23_fixAfterInsertion 145 = .ok (.invokevirtual 314, 3) := dk_182 1 58 (dk_at dksJ23_fixAfterInsertion_6 3 rfl rfl)
theorem dJ23_fixAfterInsertion_148 : decode cJ23_fixAfterInsertion 148 = .ok (.goto (-143), 3) := dk_167 255 113 (dk_at dksJ23_fixAfterInsertion_6 6 rfl rfl)
theorem dJ23_fixAfterInsertion_151 : decode cJ23_fixAfterInsertion 151 = .ok (.aload_n 1, 1) := dk_43 (dk_at dksJ23_fixAfterInsertion_6 9 rfl rfl)
theorem dJ23_fixAfterInsertion_152 : decode cJ23_fixAfterInsertion 152 = .ok (.invokestatic 294, 3) := dk_184 1 38 (dk_at dksJ23_fixAfterInsertion_6 10 rfl rfl)
theorem dJ23_fixAfterInsertion_155 : decode cJ23_fixAfterInsertion 155 = .ok (.invokestatic 294, 3) := dk_184 1 38 (dk_at dksJ23_fixAfterInsertion_6 13 rfl rfl)
theorem dJ23_fixAfterInsertion_158 : decode cJ23_fixAfterInsertion 158 = .ok (.invokestatic 297, 3) := dk_184 1 41 (dk_at dksJ23_fixAfterInsertion_6 16 rfl rfl)
theorem dJ23_fixAfterInsertion_161 : decode cJ23_fixAfterInsertion 161 = .ok (.astore_n 2, 1) := dk_77 (dk_at dksJ23_fixAfterInsertion_6 19 rfl rfl)
theorem dJ23_fixAfterInsertion_162 : decode cJ23_fixAfterInsertion 162 = .ok (.aload_n 2, 1) := dk_44 (dk_at dksJ23_fixAfterInsertion_6 20 rfl rfl)
theorem dJ23_fixAfterInsertion_163 : decode cJ23_fixAfterInsertion 163 = .ok (.invokestatic 303, 3) := dk_184 1 47 (dk_at dksJ23_fixAfterInsertion_6 21 rfl rfl)
theorem dJ23_fixAfterInsertion_166 : decode cJ23_fixAfterInsertion 166 = .ok (.ifCond .ne 38, 3) := dk_154 0 38 (dk_at dksJ23_fixAfterInsertion_7 0 rfl rfl)
theorem dJ23_fixAfterInsertion_169 : decode cJ23_fixAfterInsertion 169 = .ok (.aload_n 1, 1) := dk_43 (dk_at dksJ23_fixAfterInsertion_7 3 rfl rfl)
theorem dJ23_fixAfterInsertion_170 : decode cJ23_fixAfterInsertion 170 = .ok (.invokestatic 294, 3) := dk_184 1 38 (dk_at dksJ23_fixAfterInsertion_7 4 rfl rfl)
theorem dJ23_fixAfterInsertion_173 : decode cJ23_fixAfterInsertion 173 = .ok (.iconst 1, 1) := dk_4 (dk_at dksJ23_fixAfterInsertion_7 7 rfl rfl)
theorem dJ23_fixAfterInsertion_174 : decode cJ23_fixAfterInsertion 174 = .ok (.invokestatic 307, 3) := dk_184 1 51 (dk_at dksJ23_fixAfterInsertion_7 8 rfl rfl)
theorem dJ23_fixAfterInsertion_177 : decode cJ23_fixAfterInsertion 177 = .ok (.aload_n 2, 1) := dk_44 (dk_at dksJ23_fixAfterInsertion_7 11 rfl rfl)
theorem dJ23_fixAfterInsertion_178 : decode cJ23_fixAfterInsertion 178 = .ok (.iconst 1, 1) := dk_4 (dk_at dksJ23_fixAfterInsertion_7 12 rfl rfl)
theorem dJ23_fixAfterInsertion_179 : decode cJ23_fixAfterInsertion 179 = .ok (.invokestatic 307, 3) := dk_184 1 51 (dk_at dksJ23_fixAfterInsertion_7 13 rfl rfl)
theorem dJ23_fixAfterInsertion_182 : decode cJ23_fixAfterInsertion 182 = .ok (.aload_n 1, 1) := dk_43 (dk_at dksJ23_fixAfterInsertion_7 16 rfl rfl)
theorem dJ23_fixAfterInsertion_183 : decode cJ23_fixAfterInsertion 183 = .ok (.invokestatic 294, 3) := dk_184 1 38 (dk_at dksJ23_fixAfterInsertion_7 17 rfl rfl)
theorem dJ23_fixAfterInsertion_186 : decode cJ23_fixAfterInsertion 186 = .ok (.invokestatic 294, 3) := dk_184 1 38 (dk_at dksJ23_fixAfterInsertion_7 20 rfl rfl)
theorem dJ23_fixAfterInsertion_189 : decode cJ23_fixAfterInsertion 189 = .ok (.iconst 0, 1) := dk_3 (dk_at dksJ23_fixAfterInsertion_7 23 rfl rfl)
theorem dJ23_fixAfterInsertion_190 : decode cJ23_fixAfterInsertion 190 = .ok (.invokestatic 307, 3) := dk_184 1 51 (dk_at dksJ23_fixAfterInsertion_8 0 rfl rfl)
theorem dJ23_fixAfterInsertion_193 : decode cJ23_fixAfterInsertion 193 = .ok (.aload_n 1, 1) := dk_43 (dk_at dksJ23_fixAfterInsertion_8 3 rfl rfl)
theorem dJ23_fixAfterInsertion_194 : decode cJ23_fixAfterInsertion 194 = .ok (.invokestatic 294, 3) := dk_184 1 38 (dk_at dksJ23_fixAfterInsertion_8 4 rfl rfl)
theorem dJ23_fixAfterInsertion_197 : decode cJ23_fixAfterInsertion 197 = .ok (.invokestatic 294, 3) := dk_184 1 38 (dk_at dksJ23_fixAfterInsertion_8 7 rfl rfl)
theorem dJ23_fixAfterInsertion_200 : decode cJ23_fixAfterInsertion 200 = .ok (.astore_n 1, 1) := dk_76 (dk_at dksJ23_fixAfterInsertion_8 10 rfl rfl)
theorem dJ23_fixAfterInsertion_201 : decode cJ23_fixAfterInsertion 201 = .ok (.goto 54, 3) := dk_167 0 54 (dk_at dksJ23_fixAfterInsertion_8 11 rfl rfl)
theorem dJ23_fixAfterInsertion_204 : decode cJ23_fixAfterInsertion 204 = .ok (.aload_n 1, 1) := dk_43 (dk_at dksJ23_fixAfterInsertion_8 14 rfl rfl)
theorem dJ23_fixAfterInsertion_205 : decode cJ23_fixAfterInsertion 205 = .ok (.aload_n 1, 1) := dk_43 (dk_at dksJ23_fixAfterInsertion_8 15 rfl rfl)
theorem dJ23_fixAfterInsertion_206 : decode cJ23_fixAfterInsertion 206 = .ok (.invokestatic 294, 3) := dk_184 1 38 (dk_at dksJ23_fixAfterInsertion_8 16 rfl rfl)
theorem dJ23_fixAfterInsertion_209 : decode cJ23_fixAfterInsertion 209 = .ok (.invokestatic 297, 3) := dk_184 1 41 (dk_at dksJ23_fixAfterInsertion_8 19 rfl rfl)
theorem dJ23_fixAfterInsertion_212 : decode cJ23_fixAfterInsertion 212 = .ok (.if_acmp .ne 13, 3) := dk_166 0 13 (dk_at dksJ23_fixAfterInsertion_9 0 rfl rfl)
theorem dJ23_fixAfterInsertion_215 : decode cJ23_fixAfterInsertion 215 = .ok (.aload_n 1, 1) := dk_43 (dk_at dksJ23_fixAfterInsertion_9 3 rfl rfl)
theorem dJ23_fixAfterInsertion_216 : decode cJ23_fixAfterInsertion 216 = .ok (.invokestatic 294, 3) := dk_184 1 38 (dk_at dksJ23_fixAfterInsertion_9 4 rfl rfl)
theorem dJ23_fixAfterInsertion_219 : decode cJ23_fixAfterInsertion 219 = .ok (.astore_n 1, 1) := dk_76 (dk_at dksJ23_fixAfterInsertion_9 7 rfl rfl)
theorem dJ23_fixAfterInsertion_220 : decode cJ23_fixAfterInsertion 220 = .ok (.aload_n 0, 1) := dk_42 (dk_at dksJ23_fixAfterInsertion_9 8 rfl rfl)
theorem dJ23_fixAfterInsertion_221 : decode cJ23_fixAfterInsertion 221 = .ok (.aload_n 1, 1) := dk_43 (dk_at dksJ23_fixAfterInsertion_9 9 rfl rfl)
theorem dJ23_fixAfterInsertion_222 : decode cJ23_fixAfterInsertion 222 = .ok (.invokevirtual 314, 3) := dk_182 1 58 (dk_at dksJ23_fixAfterInsertion_9 10 rfl rfl)
theorem dJ23_fixAfterInsertion_225 : decode cJ23_fixAfterInsertion 225 = .ok (.aload_n 1, 1) := dk_43 (dk_at dksJ23_fixAfterInsertion_9 13 rfl rfl)
theorem dJ23_fixAfterInsertion_226 : decode cJ23_fixAfterInsertion 226 = .ok (.invokestatic 294, 3) := dk_184 1 38 (dk_at dksJ23_fixAfterInsertion_9 14 rfl rfl)
theorem dJ23_fixAfterInsertion_229 : decode cJ23_fixAfterInsertion 229 = .ok (.iconst 1, 1) := dk_4 (dk_at dksJ23_fixAfterInsertion_9 17 rfl rfl)
theorem dJ23_fixAfterInsertion_230 : decode cJ23_fixAfterInsertion 230 = .ok (.invokestatic 307, 3) := dk_184 1 51 (dk_at dksJ23_fixAfterInsertion_9 18 rfl rfl)
theorem dJ23_fixAfterInsertion_233 : decode cJ23_fixAfterInsertion 233 = .ok (.aload_n 1, 1) := dk_43 (dk_at dksJ23_fixAfterInsertion_9 21 rfl rfl)
theorem dJ23_fixAfterInsertion_234 : decode cJ23_fixAfterInsertion 234 = .ok (.invokestatic 294, 3) := dk_184 1 38 (dk_at dksJ23_fixAfterInsertion_10 0 rfl rfl)
theorem dJ23_fixAfterInsertion_237 : decode cJ23_fixAfterInsertion 237 = .ok (.invokestatic 294, 3) := dk_184 1 38 (dk_at dksJ23_fixAfterInsertion_10 3 rfl rfl)
theorem dJ23_fixAfterInsertion_240 : decode cJ23_fixAfterInsertion 240 = .ok (.iconst 0, 1) := dk_3 (dk_at dksJ23_fixAfterInsertion_10 6 rfl rfl)
theorem dJ23_fixAfterInsertion_241 : decode cJ23_fixAfterInsertion 241 = .ok (.invokestatic 307, 3) := dk_184 1 51 (dk_at dksJ23_fixAfterInsertion_10 7 rfl rfl)
theorem dJ23_fixAfterInsertion_244 : decode cJ23_fixAfterInsertion 244 = .ok (.aload_n 0, 1) := dk_42 (dk_at dksJ23_fixAfterInsertion_10 10 rfl rfl)
theorem dJ23_fixAfterInsertion_245 : decode cJ23_fixAfterInsertion 245 = .ok (.aload_n 1, 1) := dk_43 (dk_at dksJ23_fixAfterInsertion_10 11 rfl rfl)
theorem dJ23_fixAfterInsertion_246 : decode cJ23_fixAfterInsertion 246 = .ok (.invokestatic 294, 3) := dk_184 1 38 (dk_at dksJ23_fixAfterInsertion_10 12 rfl rfl)
theorem dJ23_fixAfterInsertion_249 : decode cJ23_fixAfterInsertion 249 = .ok (.invokestatic 294, 3) := dk_184 1 38 (dk_at dksJ23_fixAfterInsertion_10 15 rfl rfl)
theorem dJ23_fixAfterInsertion_252 : decode cJ23_fixAfterInsertion 252 = .ok (.invokevirtual 311, 3) := dk_182 1 55 (dk_at dksJ23_fixAfterInsertion_10 18 rfl rfl)
theorem dJ23_fixAfterInsertion_255 : decode cJ23_fixAfterInsertion 255 = .ok (.goto (-250), 3) := dk_167 255 6 (dk_at dksJ23_fixAfterInsertion_10 21 rfl rfl)
theorem dJ23_fixAfterInsertion_258 : decode cJ23_fixAfterInsertion 258 = .ok (.aload_n 0, 1) := dk_42 (dk_at dksJ23_fixAfterInsertion_11 0 rfl rfl)
theorem dJ23_fixAfterInsertion_259 : decode cJ23_fixAfterInsertion 259 = .ok (.getfield 101, 3) := dk_180 0 101 (dk_at dksJ23_fixAfterInsertion_11 1 rfl rfl)
theorem dJ23_fixAfterInsertion_262 : decode cJ23_fixAfterInsertion 262 = .ok (.iconst 1, 1) := dk_4 (dk_at dksJ23_fixAfterInsertion_11 4 rfl rfl)
theorem dJ23_fixAfterInsertion_263 : decode cJ23_fixAfterInsertion 263 = .ok (.putfield 290, 3) := dk_181 1 34 (dk_at dksJ23_fixAfterInsertion_11 5 rfl rfl)
theorem dJ23_fixAfterInsertion_266 : decode cJ23_fixAfterInsertion 266 = .ok (.return_, 1) := dk_177 (dk_at dksJ23_fixAfterInsertion_11 8 rfl rfl)
abbrev cJ23_parentOf : ByteArray := prog_83_method_77_code
def yJ23_parentOf : MethodName := ⟨RJ23, "parentOf", "(Ljava/util/TreeMap$Entry;)Ljava/util/TreeMap$Entry;"⟩
def dkwJ23_parentOf_0 : List UInt8 := [42, 199, 0, 7, 1, 167, 0, 7, 42, 180, 0, 124, 176]
abbrev dktJ23_parentOf_0 : List UInt8 := dkwJ23_parentOf_0 ++ []
theorem dksJ23_parentOf_0 : cJ23_parentOf.data.toList.drop 0 = dktJ23_parentOf_0 := by decide +kernel
theorem dJ23_parentOf_0 : decode cJ23_parentOf 0 = .ok (.aload_n 0, 1) := dk_42 (dk_at dksJ23_parentOf_0 0 rfl rfl)
theorem dJ23_parentOf_1 : decode cJ23_parentOf 1 = .ok (.ifnonnull 7, 3) := dk_199 0 7 (dk_at dksJ23_parentOf_0 1 rfl rfl)
theorem dJ23_parentOf_4 : decode cJ23_parentOf 4 = .ok (.aconst_null, 1) := dk_1 (dk_at dksJ23_parentOf_0 4 rfl rfl)
theorem dJ23_parentOf_5 : decode cJ23_parentOf 5 = .ok (.goto 7, 3) := dk_167 0 7 (dk_at dksJ23_parentOf_0 5 rfl rfl)
theorem dJ23_parentOf_8 : decode cJ23_parentOf 8 = .ok (.aload_n 0, 1) := dk_42 (dk_at dksJ23_parentOf_0 8 rfl rfl)
theorem dJ23_parentOf_9 : decode cJ23_parentOf 9 = .ok (.getfield 124, 3) := dk_180 0 124 (dk_at dksJ23_parentOf_0 9 rfl rfl)
theorem dJ23_parentOf_12 : decode cJ23_parentOf 12 = .ok (.areturn, 1) := dk_176 (dk_at dksJ23_parentOf_0 12 rfl rfl)
abbrev cJ23_leftOf : ByteArray := prog_83_method_79_code
def yJ23_leftOf : MethodName := ⟨RJ23, "leftOf", "(Ljava/util/TreeMap$Entry;)Ljava/util/TreeMap$Entry;"⟩
def dkwJ23_leftOf_0 : List UInt8 := [42, 199, 0, 7, 1, 167, 0, 7, 42, 180, 0, 111, 176]
abbrev dktJ23_leftOf_0 : List UInt8 := dkwJ23_leftOf_0 ++ []
theorem dksJ23_leftOf_0 : cJ23_leftOf.data.toList.drop 0 = dktJ23_leftOf_0 := by decide +kernel
theorem dJ23_leftOf_0 : decode cJ23_leftOf 0 = .ok (.aload_n 0, 1) := dk_42 (dk_at dksJ23_leftOf_0 0 rfl rfl)
theorem dJ23_leftOf_1 : decode cJ23_leftOf 1 = .ok (.ifnonnull 7, 3) := dk_199 0 7 (dk_at dksJ23_leftOf_0 1 rfl rfl)
theorem dJ23_leftOf_4 : decode cJ23_leftOf 4 = .ok (.aconst_null, 1) := dk_1 (dk_at dksJ23_leftOf_0 4 rfl rfl)
theorem dJ23_leftOf_5 : decode cJ23_leftOf 5 = .ok (.goto 7, 3) := dk_167 0 7 (dk_at dksJ23_leftOf_0 5 rfl rfl)
theorem dJ23_leftOf_8 : decode cJ23_leftOf 8 = .ok (.aload_n 0, 1) := dk_42 (dk_at dksJ23_leftOf_0 8 rfl rfl)
theorem dJ23_leftOf_9 : decode cJ23_leftOf 9 = .ok (.getfield 111, 3) := dk_180 0 111 (dk_at dksJ23_leftOf_0 9 rfl rfl)
theorem dJ23_leftOf_12 : decode cJ23_leftOf 12 = .ok (.areturn, 1) := dk_176 (dk_at dksJ23_leftOf_0 12 rfl rfl)
abbrev cJ23_rightOf : ByteArray := prog_83_method_80_code
def yJ23_rightOf : MethodName := ⟨RJ23, "rightOf", "(Ljava/util/TreeMap$Entry;)Ljava/util/TreeMap$Entry;"⟩
def dkwJ23_rightOf_0 : List UInt8 := [42, 199, 0, 7, 1, 167, 0, 7, 42, 180, 0, 114, 176]
abbrev dktJ23_rightOf_0 : List UInt8 := dkwJ23_rightOf_0 ++ []
theorem dksJ23_rightOf_0 : cJ23_rightOf.data.toList.drop 0 = dktJ23_rightOf_0 := by decide +kernel
theorem dJ23_rightOf_0 : decode cJ23_rightOf 0 = .ok (.aload_n 0, 1) := dk_42 (dk_at dksJ23_rightOf_0 0 rfl rfl)
theorem dJ23_rightOf_1 : decode cJ23_rightOf 1 = .ok (.ifnonnull 7, 3) := dk_199 0 7 (dk_at dksJ23_rightOf_0 1 rfl rfl)
theorem dJ23_rightOf_4 : decode cJ23_rightOf 4 = .ok (.aconst_null, 1) := dk_1 (dk_at dksJ23_rightOf_0 4 rfl rfl)
theorem dJ23_rightOf_5 : decode cJ23_rightOf 5 = .ok (.goto 7, 3) := dk_167 0 7 (dk_at dksJ23_rightOf_0 5 rfl rfl)
theorem dJ23_rightOf_8 : decode cJ23_rightOf 8 = .ok (.aload_n 0, 1) := dk_42 (dk_at dksJ23_rightOf_0 8 rfl rfl)
theorem dJ23_rightOf_9 : decode cJ23_rightOf 9 = .ok (.getfield 114, 3) := dk_180 0 114 (dk_at dksJ23_rightOf_0 9 rfl rfl)
theorem dJ23_rightOf_12 : decode cJ23_rightOf 12 = .ok (.areturn, 1) := dk_176 (dk_at dksJ23_rightOf_0 12 rfl rfl)
abbrev cJ23_colorOf : ByteArray := prog_83_method_76_code
def yJ23_colorOf : MethodName := ⟨RJ23, "colorOf", "(Ljava/util/TreeMap$Entry;)Z"⟩
def dkwJ23_colorOf_0 : List UInt8 := [42, 199, 0, 7, 4, 167, 0, 7, 42, 180, 1, 34, 172]
abbrev dktJ23_colorOf_0 : List UInt8 := dkwJ23_colorOf_0 ++ []
theorem dksJ23_colorOf_0 : cJ23_colorOf.data.toList.drop 0 = dktJ23_colorOf_0 := by decide +kernel
theorem dJ23_colorOf_0 : decode cJ23_colorOf 0 = .ok (.aload_n 0, 1) := dk_42 (dk_at dksJ23_colorOf_0 0 rfl rfl)
theorem dJ23_colorOf_1 : decode cJ23_colorOf 1 = .ok (.ifnonnull 7, 3) := dk_199 0 7 (dk_at dksJ23_colorOf_0 1 rfl rfl)
theorem dJ23_colorOf_4 : decode cJ23_colorOf 4 = .ok (.iconst 1, 1) := dk_4 (dk_at dksJ23_colorOf_0 4 rfl rfl)
theorem dJ23_colorOf_5 : decode cJ23_colorOf 5 = .ok (.goto 7, 3) := dk_167 0 7 (dk_at dksJ23_colorOf_0 5 rfl rfl)
theorem dJ23_colorOf_8 : decode cJ23_colorOf 8 = .ok (.aload_n 0, 1) := dk_42 (dk_at dksJ23_colorOf_0 8 rfl rfl)
theorem dJ23_colorOf_9 : decode cJ23_colorOf 9 = .ok (.getfield 290, 3) := dk_180 1 34 (dk_at dksJ23_colorOf_0 9 rfl rfl)
theorem dJ23_colorOf_12 : decode cJ23_colorOf 12 = .ok (.ireturn, 1) := dk_172 (dk_at dksJ23_colorOf_0 12 rfl rfl)
abbrev cJ23_setColor : ByteArray := prog_83_method_78_code
def yJ23_setColor : MethodName := ⟨RJ23, "setColor", "(Ljava/util/TreeMap$Entry;Z)V"⟩
def dkwJ23_setColor_0 : List UInt8 := [42, 198, 0, 8, 42, 27, 181, 1, 34, 177]
abbrev dktJ23_setColor_0 : List UInt8 := dkwJ23_setColor_0 ++ []
theorem dksJ23_setColor_0 : cJ23_setColor.data.toList.drop 0 = dktJ23_setColor_0 := by decide +kernel
theorem dJ23_setColor_0 : decode cJ23_setColor 0 = .ok (.aload_n 0, 1) := dk_42 (dk_at dksJ23_setColor_0 0 rfl rfl)
theorem dJ23_setColor_1 : decode cJ23_setColor 1 = .ok (.ifnull 8, 3) := dk_198 0 8 (dk_at dksJ23_setColor_0 1 rfl rfl)
theorem dJ23_setColor_4 : decode cJ23_setColor 4 = .ok (.aload_n 0, 1) := dk_42 (dk_at dksJ23_setColor_0 4 rfl rfl)
theorem dJ23_setColor_5 : decode cJ23_setColor 5 = .ok (.iload_n 1, 1) := dk_27 (dk_at dksJ23_setColor_0 5 rfl rfl)
theorem dJ23_setColor_6 : decode cJ23_setColor 6 = .ok (.putfield 290, 3) := dk_181 1 34 (dk_at dksJ23_setColor_0 6 rfl rfl)
theorem dJ23_setColor_9 : decode cJ23_setColor 9 = .ok (.return_, 1) := dk_177 (dk_at dksJ23_setColor_0 9 rfl rfl)
abbrev cJ23_rotateLeft : ByteArray := prog_83_method_81_code
def yJ23_rotateLeft : MethodName := ⟨RJ23, "rotateLeft", "(Ljava/util/TreeMap$Entry;)V"⟩
def dkwJ23_rotateLeft_4 : List UInt8 := [177]
abbrev dktJ23_rotateLeft_4 : List UInt8 := dkwJ23_rotateLeft_4 ++ []
def dkwJ23_rotateLeft_3 : List UInt8 := [181, 0, 111, 167, 0, 11, 43, 180, 0, 124, 44, 181, 0, 114, 44, 43, 181, 0, 111, 43, 44, 181, 0, 124]
abbrev dktJ23_rotateLeft_3 : List UInt8 := dkwJ23_rotateLeft_3 ++ dktJ23_rotateLeft_4
def dkwJ23_rotateLeft_2 : List UInt8 := [44, 181, 0, 101, 167, 0, 33, 43, 180, 0, 124, 180, 0, 111, 43, 166, 0, 14, 43, 180, 0, 124, 44]
abbrev dktJ23_rotateLeft_2 : List UInt8 := dkwJ23_rotateLeft_2 ++ dktJ23_rotateLeft_3
def dkwJ23_rotateLeft_1 : List UInt8 := [44, 180, 0, 111, 43, 181, 0, 124, 44, 43, 180, 0, 124, 181, 0, 124, 43, 180, 0, 124, 199, 0, 11, 42]
abbrev dktJ23_rotateLeft_1 : List UInt8 := dkwJ23_rotateLeft_1 ++ dktJ23_rotateLeft_2
def dkwJ23_rotateLeft_0 : List UInt8 := [43, 198, 0, 94, 43, 180, 0, 114, 77, 43, 44, 180, 0, 111, 181, 0, 114, 44, 180, 0, 111, 198, 0, 11]
abbrev dktJ23_rotateLeft_0 : List UInt8 := dkwJ23_rotateLeft_0 ++ dktJ23_rotateLeft_1
theorem dksJ23_rotateLeft_0 : cJ23_rotateLeft.data.toList.drop 0 = dktJ23_rotateLeft_0 := by decide +kernel
theorem dksJ23_rotateLeft_1 : cJ23_rotateLeft.data.toList.drop 24 = dktJ23_rotateLeft_1 := dk_seg dksJ23_rotateLeft_0 24 rfl rfl
theorem dksJ23_rotateLeft_2 : cJ23_rotateLeft.data.toList.drop 48 = dktJ23_rotateLeft_2 := dk_seg dksJ23_rotateLeft_1 24 rfl rfl
theorem dksJ23_rotateLeft_3 : cJ23_rotateLeft.data.toList.drop 71 = dktJ23_rotateLeft_3 := dk_seg dksJ23_rotateLeft_2 23 rfl rfl
theorem dksJ23_rotateLeft_4 : cJ23_rotateLeft.data.toList.drop 95 = dktJ23_rotateLeft_4 := dk_seg dksJ23_rotateLeft_3 24 rfl rfl
theorem dJ23_rotateLeft_0 : decode cJ23_rotateLeft 0 = .ok (.aload_n 1, 1) := dk_43 (dk_at dksJ23_rotateLeft_0 0 rfl rfl)
theorem dJ23_rotateLeft_1 : decode cJ23_rotateLeft 1 = .ok (.ifnull 94, 3) := dk_198 0 94 (dk_at dksJ23_rotateLeft_0 1 rfl rfl)
theorem dJ23_rotateLeft_4 : decode cJ23_rotateLeft 4 = .ok (.aload_n 1, 1) := dk_43 (dk_at dksJ23_rotateLeft_0 4 rfl rfl)
theorem dJ23_rotateLeft_5 : decode cJ23_rotateLeft 5 = .ok (.getfield 114, 3) := dk_180 0 114 (dk_at dksJ23_rotateLeft_0 5 rfl rfl)
theorem dJ23_rotateLeft_8 : decode cJ23_rotateLeft 8 = .ok (.astore_n 2, 1) := dk_77 (dk_at dksJ23_rotateLeft_0 8 rfl rfl)
theorem dJ23_rotateLeft_9 : decode cJ23_rotateLeft 9 = .ok (.aload_n 1, 1) := dk_43 (dk_at dksJ23_rotateLeft_0 9 rfl rfl)
theorem dJ23_rotateLeft_10 : decode cJ23_rotateLeft 10 = .ok (.aload_n 2, 1) := dk_44 (dk_at dksJ23_rotateLeft_0 10 rfl rfl)
theorem dJ23_rotateLeft_11 : decode cJ23_rotateLeft 11 = .ok (.getfield 111, 3) := dk_180 0 111 (dk_at dksJ23_rotateLeft_0 11 rfl rfl)
theorem dJ23_rotateLeft_14 : decode cJ23_rotateLeft 14 = .ok (.putfield 114, 3) := dk_181 0 114 (dk_at dksJ23_rotateLeft_0 14 rfl rfl)
theorem dJ23_rotateLeft_17 : decode cJ23_rotateLeft 17 = .ok (.aload_n 2, 1) := dk_44 (dk_at dksJ23_rotateLeft_0 17 rfl rfl)
theorem dJ23_rotateLeft_18 : decode cJ23_rotateLeft 18 = .ok (.getfield 111, 3) := dk_180 0 111 (dk_at dksJ23_rotateLeft_0 18 rfl rfl)
theorem dJ23_rotateLeft_21 : decode cJ23_rotateLeft 21 = .ok (.ifnull 11, 3) := dk_198 0 11 (dk_at dksJ23_rotateLeft_0 21 rfl rfl)
theorem dJ23_rotateLeft_24 : decode cJ23_rotateLeft 24 = .ok (.aload_n 2, 1) := dk_44 (dk_at dksJ23_rotateLeft_1 0 rfl rfl)
theorem dJ23_rotateLeft_25 : decode cJ23_rotateLeft 25 = .ok (.getfield 111, 3) := dk_180 0 111 (dk_at dksJ23_rotateLeft_1 1 rfl rfl)
theorem dJ23_rotateLeft_28 : decode cJ23_rotateLeft 28 = .ok (.aload_n 1, 1) := dk_43 (dk_at dksJ23_rotateLeft_1 4 rfl rfl)
theorem dJ23_rotateLeft_29 : decode cJ23_rotateLeft 29 = .ok (.putfield 124, 3) := dk_181 0 124 (dk_at dksJ23_rotateLeft_1 5 rfl rfl)
theorem dJ23_rotateLeft_32 : decode cJ23_rotateLeft 32 = .ok (.aload_n 2, 1) := dk_44 (dk_at dksJ23_rotateLeft_1 8 rfl rfl)
theorem dJ23_rotateLeft_33 : decode cJ23_rotateLeft 33 = .ok (.aload_n 1, 1) := dk_43 (dk_at dksJ23_rotateLeft_1 9 rfl rfl)
theorem dJ23_rotateLeft_34 : decode cJ23_rotateLeft 34 = .ok (.getfield 124, 3) := dk_180 0 124 (dk_at dksJ23_rotateLeft_1 10 rfl rfl)
theorem dJ23_rotateLeft_37 : decode cJ23_rotateLeft 37 = .ok (.putfield 124, 3) := dk_181 0 124 (dk_at dksJ23_rotateLeft_1 13 rfl rfl)
theorem dJ23_rotateLeft_40 : decode cJ23_rotateLeft 40 = .ok (.aload_n 1, 1) := dk_43 (dk_at dksJ23_rotateLeft_1 16 rfl rfl)
theorem dJ23_rotateLeft_41 : decode cJ23_rotateLeft 41 = .ok (.getfield 124, 3) := dk_180 0 124 (dk_at dksJ23_rotateLeft_1 17 rfl rfl)
theorem dJ23_rotateLeft_44 : decode cJ23_rotateLeft 44 = .ok (.ifnonnull 11, 3) := dk_199 0 11 (dk_at dksJ23_rotateLeft_1 20 rfl rfl)
theorem dJ23_rotateLeft_47 : decode cJ23_rotateLeft 47 = .ok (.aload_n 0, 1) := dk_42 (dk_at dksJ23_rotateLeft_1 23 rfl rfl)
theorem dJ23_rotateLeft_48 : decode cJ23_rotateLeft 48 = .ok (.aload_n 2, 1) := dk_44 (dk_at dksJ23_rotateLeft_2 0 rfl rfl)
theorem dJ23_rotateLeft_49 : decode cJ23_rotateLeft 49 = .ok (.putfield 101, 3) := dk_181 0 101 (dk_at dksJ23_rotateLeft_2 1 rfl rfl)
theorem dJ23_rotateLeft_52 : decode cJ23_rotateLeft 52 = .ok (.goto 33, 3) := dk_167 0 33 (dk_at dksJ23_rotateLeft_2 4 rfl rfl)
theorem dJ23_rotateLeft_55 : decode cJ23_rotateLeft 55 = .ok (.aload_n 1, 1) := dk_43 (dk_at dksJ23_rotateLeft_2 7 rfl rfl)
theorem dJ23_rotateLeft_56 : decode cJ23_rotateLeft 56 = .ok (.getfield 124, 3) := dk_180 0 124 (dk_at dksJ23_rotateLeft_2 8 rfl rfl)
theorem dJ23_rotateLeft_59 : decode cJ23_rotateLeft 59 = .ok (.getfield 111, 3) := dk_180 0 111 (dk_at dksJ23_rotateLeft_2 11 rfl rfl)
theorem dJ23_rotateLeft_62 : decode cJ23_rotateLeft 62 = .ok (.aload_n 1, 1) := dk_43 (dk_at dksJ23_rotateLeft_2 14 rfl rfl)
theorem dJ23_rotateLeft_63 : decode cJ23_rotateLeft 63 = .ok (.if_acmp .ne 14, 3) := dk_166 0 14 (dk_at dksJ23_rotateLeft_2 15 rfl rfl)
theorem dJ23_rotateLeft_66 : decode cJ23_rotateLeft 66 = .ok (.aload_n 1, 1) := dk_43 (dk_at dksJ23_rotateLeft_2 18 rfl rfl)
theorem dJ23_rotateLeft_67 : decode cJ23_rotateLeft 67 = .ok (.getfield 124, 3) := dk_180 0 124 (dk_at dksJ23_rotateLeft_2 19 rfl rfl)
theorem dJ23_rotateLeft_70 : decode cJ23_rotateLeft 70 = .ok (.aload_n 2, 1) := dk_44 (dk_at dksJ23_rotateLeft_2 22 rfl rfl)
theorem dJ23_rotateLeft_71 : decode cJ23_rotateLeft 71 = .ok (.putfield 111, 3) := dk_181 0 111 (dk_at dksJ23_rotateLeft_3 0 rfl rfl)
theorem dJ23_rotateLeft_74 : decode cJ23_rotateLeft 74 = .ok (.goto 11, 3) := dk_167 0 11 (dk_at dksJ23_rotateLeft_3 3 rfl rfl)
theorem dJ23_rotateLeft_77 : decode cJ23_rotateLeft 77 = .ok (.aload_n 1, 1) := dk_43 (dk_at dksJ23_rotateLeft_3 6 rfl rfl)
theorem dJ23_rotateLeft_78 : decode cJ23_rotateLeft 78 = .ok (.getfield 124, 3) := dk_180 0 124 (dk_at dksJ23_rotateLeft_3 7 rfl rfl)
theorem dJ23_rotateLeft_81 : decode cJ23_rotateLeft 81 = .ok (.aload_n 2, 1) := dk_44 (dk_at dksJ23_rotateLeft_3 10 rfl rfl)
theorem dJ23_rotateLeft_82 : decode cJ23_rotateLeft 82 = .ok (.putfield 114, 3) := dk_181 0 114 (dk_at dksJ23_rotateLeft_3 11 rfl rfl)
theorem dJ23_rotateLeft_85 : decode cJ23_rotateLeft 85 = .ok (.aload_n 2, 1) := dk_44 (dk_at dksJ23_rotateLeft_3 14 rfl rfl)
theorem dJ23_rotateLeft_86 : decode cJ23_rotateLeft 86 = .ok (.aload_n 1, 1) := dk_43 (dk_at dksJ23_rotateLeft_3 15 rfl rfl)
theorem dJ23_rotateLeft_87 : decode cJ23_rotateLeft 87 = .ok (.putfield 111, 3) := dk_181 0 111 (dk_at dksJ23_rotateLeft_3 16 rfl rfl)
theorem dJ23_rotateLeft_90 : decode cJ23_rotateLeft 90 = .ok (.aload_n 1, 1) := dk_43 (dk_at dksJ23_rotateLeft_3 19 rfl rfl)
theorem dJ23_rotateLeft_91 : decode cJ23_rotateLeft 91 = .ok (.aload_n 2, 1) := dk_44 (dk_at dksJ23_rotateLeft_3 20 rfl rfl)
theorem dJ23_rotateLeft_92 : decode cJ23_rotateLeft 92 = .ok (.putfield 124, 3) := dk_181 0 124 (dk_at dksJ23_rotateLeft_3 21 rfl rfl)
theorem dJ23_rotateLeft_95 : decode cJ23_rotateLeft 95 = .ok (.return_, 1) := dk_177 (dk_at dksJ23_rotateLeft_4 0 rfl rfl)
abbrev cJ23_rotateRight : ByteArray := prog_83_method_82_code
def yJ23_rotateRight : MethodName := ⟨RJ23, "rotateRight", "(Ljava/util/TreeMap$Entry;)V"⟩
def dkwJ23_rotateRight_4 : List UInt8 := [177]
abbrev dktJ23_rotateRight_4 : List UInt8 := dkwJ23_rotateRight_4 ++ []
def dkwJ23_rotateRight_3 : List UInt8 := [181, 0, 114, 167, 0, 11, 43, 180, 0, 124, 44, 181, 0, 111, 44, 43, 181, 0, 114, 43, 44, 181, 0, 124]
abbrev dktJ23_rotateRight_3 : List UInt8 := dkwJ23_rotateRight_3 ++ dktJ23_rotateRight_4
def dkwJ23_rotateRight_2 : List UInt8 := [44, 181, 0, 101, 167, 0, 33, 43, 180, 0, 124, 180, 0, 114, 43, 166, 0, 14, 43, 180, 0, 124, 44]
abbrev dktJ23_rotateRight_2 : List UInt8 := dkwJ23_rotateRight_2 ++ dktJ23_rotateRight_3
def dkwJ23_rotateRight_1 : List UInt8 := [44, 180, 0, 114, 43, 181, 0, 124, 44, 43, 180, 0, 124, 181, 0, 124, 43, 180, 0, 124, 199, 0, 11, 42]
abbrev dktJ23_rotateRight_1 : List UInt8 := dkwJ23_rotateRight_1 ++ dktJ23_rotateRight_2
def dkwJ23_rotateRight_0 : List UInt8 := [43, 198, 0, 94, 43, 180, 0, 111, 77, 43, 44, 180, 0, 114, 181, 0, 111, 44, 180, 0, 114, 198, 0, 11]
abbrev dktJ23_rotateRight_0 : List UInt8 := dkwJ23_rotateRight_0 ++ dktJ23_rotateRight_1
theorem dksJ23_rotateRight_0 : cJ23_rotateRight.data.toList.drop 0 = dktJ23_rotateRight_0 := by decide +kernel
theorem dksJ23_rotateRight_1 : cJ23_rotateRight.data.toList.drop 24 = dktJ23_rotateRight_1 := dk_seg dksJ23_rotateRight_0 24 rfl rfl
theorem dksJ23_rotateRight_2 : cJ23_rotateRight.data.toList.drop 48 = dktJ23_rotateRight_2 := dk_seg dksJ23_rotateRight_1 24 rfl rfl
theorem dksJ23_rotateRight_3 : cJ23_rotateRight.data.toList.drop 71 = dktJ23_rotateRight_3 := dk_seg dksJ23_rotateRight_2 23 rfl rfl
theorem dksJ23_rotateRight_4 : cJ23_rotateRight.data.toList.drop 95 = dktJ23_rotateRight_4 := dk_seg dksJ23_rotateRight_3 24 rfl rfl
theorem dJ23_rotateRight_0 : decode cJ23_rotateRight 0 = .ok (.aload_n 1, 1) := dk_43 (dk_at dksJ23_rotateRight_0 0 rfl rfl)
theorem dJ23_rotateRight_1 : decode cJ23_rotateRight 1 = .ok (.ifnull 94, 3) := dk_198 0 94 (dk_at dksJ23_rotateRight_0 1 rfl rfl)
theorem dJ23_rotateRight_4 : decode cJ23_rotateRight 4 = .ok (.aload_n 1, 1) := dk_43 (dk_at dksJ23_rotateRight_0 4 rfl rfl)
theorem dJ23_rotateRight_5 : decode cJ23_rotateRight 5 = .ok (.getfield 111, 3) := dk_180 0 111 (dk_at dksJ23_rotateRight_0 5 rfl rfl)
theorem dJ23_rotateRight_8 : decode cJ23_rotateRight 8 = .ok (.astore_n 2, 1) := dk_77 (dk_at dksJ23_rotateRight_0 8 rfl rfl)
theorem dJ23_rotateRight_9 : decode cJ23_rotateRight 9 = .ok (.aload_n 1, 1) := dk_43 (dk_at dksJ23_rotateRight_0 9 rfl rfl)
theorem dJ23_rotateRight_10 : decode cJ23_rotateRight 10 = .ok (.aload_n 2, 1) := dk_44 (dk_at dksJ23_rotateRight_0 10 rfl rfl)
theorem dJ23_rotateRight_11 : decode cJ23_rotateRight 11 = .ok (.getfield 114, 3) := dk_180 0 114 (dk_at dksJ23_rotateRight_0 11 rfl rfl)
theorem dJ23_rotateRight_14 : decode cJ23_rotateRight 14 = .ok (.putfield 111, 3) := dk_181 0 111 (dk_at dksJ23_rotateRight_0 14 rfl rfl)
theorem dJ23_rotateRight_17 : decode cJ23_rotateRight 17 = .ok (.aload_n 2, 1) := dk_44 (dk_at dksJ23_rotateRight_0 17 rfl rfl)
theorem dJ23_rotateRight_18 : decode cJ23_rotateRight 18 = .ok (.getfield 114, 3) := dk_180 0 114 (dk_at dksJ23_rotateRight_0 18 rfl rfl)
theorem dJ23_rotateRight_21 : decode cJ23_rotateRight 21 = .ok (.ifnull 11, 3) := dk_198 0 11 (dk_at dksJ23_rotateRight_0 21 rfl rfl)
theorem dJ23_rotateRight_24 : decode cJ23_rotateRight 24 = .ok (.aload_n 2, 1) := dk_44 (dk_at dksJ23_rotateRight_1 0 rfl rfl)
theorem dJ23_rotateRight_25 : decode cJ23_rotateRight 25 = .ok (.getfield 114, 3) := dk_180 0 114 (dk_at dksJ23_rotateRight_1 1 rfl rfl)
theorem dJ23_rotateRight_28 : decode cJ23_rotateRight 28 = .ok (.aload_n 1, 1) := dk_43 (dk_at dksJ23_rotateRight_1 4 rfl rfl)
theorem dJ23_rotateRight_29 : decode cJ23_rotateRight 29 = .ok (.putfield 124, 3) := dk_181 0 124 (dk_at dksJ23_rotateRight_1 5 rfl rfl)
theorem dJ23_rotateRight_32 : decode cJ23_rotateRight 32 = .ok (.aload_n 2, 1) := dk_44 (dk_at dksJ23_rotateRight_1 8 rfl rfl)
theorem dJ23_rotateRight_33 : decode cJ23_rotateRight 33 = .ok (.aload_n 1, 1) := dk_43 (dk_at dksJ23_rotateRight_1 9 rfl rfl)
theorem dJ23_rotateRight_34 : decode cJ23_rotateRight 34 = .ok (.getfield 124, 3) := dk_180 0 124 (dk_at dksJ23_rotateRight_1 10 rfl rfl)
theorem dJ23_rotateRight_37 : decode cJ23_rotateRight 37 = .ok (.putfield 124, 3) := dk_181 0 124 (dk_at dksJ23_rotateRight_1 13 rfl rfl)
theorem dJ23_rotateRight_40 : decode cJ23_rotateRight 40 = .ok (.aload_n 1, 1) := dk_43 (dk_at dksJ23_rotateRight_1 16 rfl rfl)
theorem dJ23_rotateRight_41 : decode cJ23_rotateRight 41 = .ok (.getfield 124, 3) := dk_180 0 124 (dk_at dksJ23_rotateRight_1 17 rfl rfl)
theorem dJ23_rotateRight_44 : decode cJ23_rotateRight 44 = .ok (.ifnonnull 11, 3) := dk_199 0 11 (dk_at dksJ23_rotateRight_1 20 rfl rfl)
theorem dJ23_rotateRight_47 : decode cJ23_rotateRight 47 = .ok (.aload_n 0, 1) := dk_42 (dk_at dksJ23_rotateRight_1 23 rfl rfl)
theorem dJ23_rotateRight_48 : decode cJ23_rotateRight 48 = .ok (.aload_n 2, 1) := dk_44 (dk_at dksJ23_rotateRight_2 0 rfl rfl)
theorem dJ23_rotateRight_49 : decode cJ23_rotateRight 49 = .ok (.putfield 101, 3) := dk_181 0 101 (dk_at dksJ23_rotateRight_2 1 rfl rfl)
theorem dJ23_rotateRight_52 : decode cJ23_rotateRight 52 = .ok (.goto 33, 3) := dk_167 0 33 (dk_at dksJ23_rotateRight_2 4 rfl rfl)
theorem dJ23_rotateRight_55 : decode cJ23_rotateRight 55 = .ok (.aload_n 1, 1) := dk_43 (dk_at dksJ23_rotateRight_2 7 rfl rfl)
theorem dJ23_rotateRight_56 : decode cJ23_rotateRight 56 = .ok (.getfield 124, 3) := dk_180 0 124 (dk_at dksJ23_rotateRight_2 8 rfl rfl)
theorem dJ23_rotateRight_59 : decode cJ23_rotateRight 59 = .ok (.getfield 114, 3) := dk_180 0 114 (dk_at dksJ23_rotateRight_2 11 rfl rfl)
theorem dJ23_rotateRight_62 : decode cJ23_rotateRight 62 = .ok (.aload_n 1, 1) := dk_43 (dk_at dksJ23_rotateRight_2 14 rfl rfl)
theorem dJ23_rotateRight_63 : decode cJ23_rotateRight 63 = .ok (.if_acmp .ne 14, 3) := dk_166 0 14 (dk_at dksJ23_rotateRight_2 15 rfl rfl)
theorem dJ23_rotateRight_66 : decode cJ23_rotateRight 66 = .ok (.aload_n 1, 1) := dk_43 (dk_at dksJ23_rotateRight_2 18 rfl rfl)
theorem dJ23_rotateRight_67 : decode cJ23_rotateRight 67 = .ok (.getfield 124, 3) := dk_180 0 124 (dk_at dksJ23_rotateRight_2 19 rfl rfl)
theorem dJ23_rotateRight_70 : decode cJ23_rotateRight 70 = .ok (.aload_n 2, 1) := dk_44 (dk_at dksJ23_rotateRight_2 22 rfl rfl)
theorem dJ23_rotateRight_71 : decode cJ23_rotateRight 71 = .ok (.putfield 114, 3) := dk_181 0 114 (dk_at dksJ23_rotateRight_3 0 rfl rfl)
theorem dJ23_rotateRight_74 : decode cJ23_rotateRight 74 = .ok (.goto 11, 3) := dk_167 0 11 (dk_at dksJ23_rotateRight_3 3 rfl rfl)
theorem dJ23_rotateRight_77 : decode cJ23_rotateRight 77 = .ok (.aload_n 1, 1) := dk_43 (dk_at dksJ23_rotateRight_3 6 rfl rfl)
theorem dJ23_rotateRight_78 : decode cJ23_rotateRight 78 = .ok (.getfield 124, 3) := dk_180 0 124 (dk_at dksJ23_rotateRight_3 7 rfl rfl)
theorem dJ23_rotateRight_81 : decode cJ23_rotateRight 81 = .ok (.aload_n 2, 1) := dk_44 (dk_at dksJ23_rotateRight_3 10 rfl rfl)
theorem dJ23_rotateRight_82 : decode cJ23_rotateRight 82 = .ok (.putfield 111, 3) := dk_181 0 111 (dk_at dksJ23_rotateRight_3 11 rfl rfl)
theorem dJ23_rotateRight_85 : decode cJ23_rotateRight 85 = .ok (.aload_n 2, 1) := dk_44 (dk_at dksJ23_rotateRight_3 14 rfl rfl)
theorem dJ23_rotateRight_86 : decode cJ23_rotateRight 86 = .ok (.aload_n 1, 1) := dk_43 (dk_at dksJ23_rotateRight_3 15 rfl rfl)
theorem dJ23_rotateRight_87 : decode cJ23_rotateRight 87 = .ok (.putfield 114, 3) := dk_181 0 114 (dk_at dksJ23_rotateRight_3 16 rfl rfl)
theorem dJ23_rotateRight_90 : decode cJ23_rotateRight 90 = .ok (.aload_n 1, 1) := dk_43 (dk_at dksJ23_rotateRight_3 19 rfl rfl)
theorem dJ23_rotateRight_91 : decode cJ23_rotateRight 91 = .ok (.aload_n 2, 1) := dk_44 (dk_at dksJ23_rotateRight_3 20 rfl rfl)
theorem dJ23_rotateRight_92 : decode cJ23_rotateRight 92 = .ok (.putfield 124, 3) := dk_181 0 124 (dk_at dksJ23_rotateRight_3 21 rfl rfl)
theorem dJ23_rotateRight_95 : decode cJ23_rotateRight 95 = .ok (.return_, 1) := dk_177 (dk_at dksJ23_rotateRight_4 0 rfl rfl)
abbrev cJ23_init : ByteArray := prog_83_method_1_code
def yJ23_init : MethodName := ⟨RJ23, "<init>", "()V"⟩
def dkwJ23_init_0 : List UInt8 := [42, 183, 0, 1, 42, 3, 181, 0, 7, 42, 3, 181, 0, 13, 42, 1, 181, 0, 16, 177]
abbrev dktJ23_init_0 : List UInt8 := dkwJ23_init_0 ++ []
theorem dksJ23_init_0 : cJ23_init.data.toList.drop 0 = dktJ23_init_0 := by decide +kernel
theorem dJ23_init_0 : decode cJ23_init 0 = .ok (.aload_n 0, 1) := dk_42 (dk_at dksJ23_init_0 0 rfl rfl)
theorem dJ23_init_1 : decode cJ23_init 1 = .ok (.invokespecial 1, 3) := dk_183 0 1 (dk_at dksJ23_init_0 1 rfl rfl)
theorem dJ23_init_4 : decode cJ23_init 4 = .ok (.aload_n 0, 1) := dk_42 (dk_at dksJ23_init_0 4 rfl rfl)
theorem dJ23_init_5 : decode cJ23_init 5 = .ok (.iconst 0, 1) := dk_3 (dk_at dksJ23_init_0 5 rfl rfl)
theorem dJ23_init_6 : decode cJ23_init 6 = .ok (.putfield 7, 3) := dk_181 0 7 (dk_at dksJ23_init_0 6 rfl rfl)
theorem dJ23_init_9 : decode cJ23_init 9 = .ok (.aload_n 0, 1) := dk_42 (dk_at dksJ23_init_0 9 rfl rfl)
theorem dJ23_init_10 : decode cJ23_init 10 = .ok (.iconst 0, 1) := dk_3 (dk_at dksJ23_init_0 10 rfl rfl)
theorem dJ23_init_11 : decode cJ23_init 11 = .ok (.putfield 13, 3) := dk_181 0 13 (dk_at dksJ23_init_0 11 rfl rfl)
theorem dJ23_init_14 : decode cJ23_init 14 = .ok (.aload_n 0, 1) := dk_42 (dk_at dksJ23_init_0 14 rfl rfl)
theorem dJ23_init_15 : decode cJ23_init 15 = .ok (.aconst_null, 1) := dk_1 (dk_at dksJ23_init_0 15 rfl rfl)
theorem dJ23_init_16 : decode cJ23_init 16 = .ok (.putfield 16, 3) := dk_181 0 16 (dk_at dksJ23_init_0 16 rfl rfl)
theorem dJ23_init_19 : decode cJ23_init 19 = .ok (.return_, 1) := dk_177 (dk_at dksJ23_init_0 19 rfl rfl)
theorem q148 : (Jvm.Cond.initialized "java/util/TreeMap") ∈ lw_all := lw_g (lw_at lw_m1 29 rfl) rfl
theorem q879 : (Jvm.Cond.selects "java/util/TreeMap" ({ cls := "java/lang/Object", name := "getClass", desc := "()Ljava/lang/Class;" } : Jvm.MethodName) ({ cls := "java/lang/Object", name := "getClass", desc := "()Ljava/lang/Class;" } : Jvm.MethodName)) ∈ lw_all := lw_g (lw_at lw_m4 40 rfl) rfl
theorem q1003 : (Jvm.Cond.instanceMethod ({ cls := "java/util/TreeMap", name := "keyIterator", desc := "()Ljava/util/Iterator;" } : Jvm.MethodName)) ∈ lw_all := lw_g (lw_at lw_m4 164 rfl) rfl
theorem q1004 : (Jvm.Cond.selects "java/util/TreeMap" ({ cls := "java/util/TreeMap", name := "keyIterator", desc := "()Ljava/util/Iterator;" } : Jvm.MethodName) ({ cls := "java/util/TreeMap", name := "keyIterator", desc := "()Ljava/util/Iterator;" } : Jvm.MethodName)) ∈ lw_all := lw_g (lw_at lw_m4 165 rfl) rfl
theorem q1005 : (Jvm.Cond.code ({ cls := "java/util/TreeMap", name := "keyIterator", desc := "()Ljava/util/Iterator;" } : Jvm.MethodName) prog_83_method_65_code (1 : Nat) (Option.some (Jvm.ClassFile.FieldType.object "java/util/Iterator"))) ∈ lw_all := lw_g (lw_at lw_m4 166 rfl) rfl
theorem q1006 : (Jvm.Cond.classLink "java/util/TreeMap" (269 : Nat) "java/util/TreeMap$KeyIterator") ∈ lw_all := lw_g (lw_at lw_m4 167 rfl) rfl
theorem q1008 : (Jvm.Cond.methodLink "java/util/TreeMap" (54 : Nat) ({ cls := "java/util/TreeMap", name := "getFirstEntry", desc := "()Ljava/util/TreeMap$Entry;" } : Jvm.MethodName)) ∈ lw_all := lw_g (lw_at lw_m4 169 rfl) rfl
theorem q1009 : (Jvm.Cond.instanceMethod ({ cls := "java/util/TreeMap", name := "getFirstEntry", desc := "()Ljava/util/TreeMap$Entry;" } : Jvm.MethodName)) ∈ lw_all := lw_g (lw_at lw_m4 170 rfl) rfl
theorem q1010 : (Jvm.Cond.selects "java/util/TreeMap" ({ cls := "java/util/TreeMap", name := "getFirstEntry", desc := "()Ljava/util/TreeMap$Entry;" } : Jvm.MethodName) ({ cls := "java/util/TreeMap", name := "getFirstEntry", desc := "()Ljava/util/TreeMap$Entry;" } : Jvm.MethodName)) ∈ lw_all := lw_g (lw_at lw_m4 171 rfl) rfl
theorem q1011 : (Jvm.Cond.code ({ cls := "java/util/TreeMap", name := "getFirstEntry", desc := "()Ljava/util/TreeMap$Entry;" } : Jvm.MethodName) prog_83_method_72_code (2 : Nat) (Option.some (Jvm.ClassFile.FieldType.object "java/util/TreeMap$Entry"))) ∈ lw_all := lw_g (lw_at lw_m4 172 rfl) rfl
theorem q1012 : (Jvm.Cond.methodLink "java/util/TreeMap" (271 : Nat) ({ cls := "java/util/TreeMap$KeyIterator", name := "<init>", desc := "(Ljava/util/TreeMap;Ljava/util/TreeMap$Entry;)V" } : Jvm.MethodName)) ∈ lw_all := lw_g (lw_at lw_m4 173 rfl) rfl
theorem q1046 : (Jvm.Cond.castable "java/util/TreeMap" "java/util/NavigableMap") ∈ lw_tbl := lw_at lw_m4 207 rfl
theorem q1047 : (Jvm.Cond.selects "java/util/TreeMap" ({ cls := "java/util/NavigableMap", name := "navigableKeySet", desc := "()Ljava/util/NavigableSet;" } : Jvm.MethodName) ({ cls := "java/util/TreeMap", name := "navigableKeySet", desc := "()Ljava/util/NavigableSet;" } : Jvm.MethodName)) ∈ lw_all := lw_g (lw_at lw_m4 208 rfl) rfl
theorem q1048 : (Jvm.Cond.unhidden "java/util/TreeMap" "navigableKeySet" "()Ljava/util/NavigableSet;") ∈ lw_tbl := lw_at lw_m4 209 rfl
theorem q1049 : (Jvm.Cond.instanceMethod ({ cls := "java/util/TreeMap", name := "navigableKeySet", desc := "()Ljava/util/NavigableSet;" } : Jvm.MethodName)) ∈ lw_all := lw_g (lw_at lw_m4 210 rfl) rfl
theorem q1050 : (Jvm.Cond.publicMethod ({ cls := "java/util/TreeMap", name := "navigableKeySet", desc := "()Ljava/util/NavigableSet;" } : Jvm.MethodName)) ∈ lw_tbl := lw_at lw_m4 211 rfl
theorem q1051 : (Jvm.Cond.code ({ cls := "java/util/TreeMap", name := "navigableKeySet", desc := "()Ljava/util/NavigableSet;" } : Jvm.MethodName) prog_83_method_50_code (2 : Nat) (Option.some (Jvm.ClassFile.FieldType.object "java/util/NavigableSet"))) ∈ lw_all := lw_g (lw_at lw_m4 212 rfl) rfl
theorem q1052 : (Jvm.Cond.classLink "java/util/TreeMap" (222 : Nat) "java/util/TreeMap$KeySet") ∈ lw_all := lw_g (lw_at lw_m4 213 rfl) rfl
theorem q1054 : (Jvm.Cond.methodLink "java/util/TreeMap" (224 : Nat) ({ cls := "java/util/TreeMap$KeySet", name := "<init>", desc := "(Ljava/util/NavigableMap;)V" } : Jvm.MethodName)) ∈ lw_all := lw_g (lw_at lw_m4 215 rfl) rfl
theorem q1157 : (Jvm.Cond.static ({ cls := "java/util/TreeMap", name := "successor", desc := "(Ljava/util/TreeMap$Entry;)Ljava/util/TreeMap$Entry;" } : Jvm.MethodName)) ∈ lw_all := lw_g (lw_at lw_m5 78 rfl) rfl
theorem q1158 : (Jvm.Cond.code ({ cls := "java/util/TreeMap", name := "successor", desc := "(Ljava/util/TreeMap$Entry;)Ljava/util/TreeMap$Entry;" } : Jvm.MethodName) prog_83_method_74_code (3 : Nat) (Option.some (Jvm.ClassFile.FieldType.object "java/util/TreeMap$Entry"))) ∈ lw_all := lw_g (lw_at lw_m5 79 rfl) rfl
theorem q1805 : (Jvm.Cond.selects "java/util/TreeMap" ({ cls := "java/util/Map", name := "size", desc := "()I" } : Jvm.MethodName) ({ cls := "java/util/TreeMap", name := "size", desc := "()I" } : Jvm.MethodName)) ∈ lw_all := lw_g (lw_at lw_m8 6 rfl) rfl
theorem q1806 : (Jvm.Cond.unhidden "java/util/TreeMap" "size" "()I") ∈ lw_tbl := lw_at lw_m8 7 rfl
theorem q1807 : (Jvm.Cond.instanceMethod ({ cls := "java/util/TreeMap", name := "size", desc := "()I" } : Jvm.MethodName)) ∈ lw_all := lw_g (lw_at lw_m8 8 rfl) rfl
theorem q1808 : (Jvm.Cond.publicMethod ({ cls := "java/util/TreeMap", name := "size", desc := "()I" } : Jvm.MethodName)) ∈ lw_tbl := lw_at lw_m8 9 rfl
theorem q1809 : (Jvm.Cond.code ({ cls := "java/util/TreeMap", name := "size", desc := "()I" } : Jvm.MethodName) prog_83_method_5_code (1 : Nat) (Option.some Jvm.ClassFile.FieldType.int)) ∈ lw_all := lw_g (lw_at lw_m8 10 rfl) rfl
theorem q2205 : (Jvm.Cond.selects "java/util/TreeMap" ({ cls := "java/util/Map", name := "put", desc := "(Ljava/lang/Object;Ljava/lang/Object;)Ljava/lang/Object;" } : Jvm.MethodName) ({ cls := "java/util/TreeMap", name := "put", desc := "(Ljava/lang/Object;Ljava/lang/Object;)Ljava/lang/Object;" } : Jvm.MethodName)) ∈ lw_all := lw_g (lw_at lw_m9 166 rfl) rfl
theorem q2206 : (Jvm.Cond.unhidden "java/util/TreeMap" "put" "(Ljava/lang/Object;Ljava/lang/Object;)Ljava/lang/Object;") ∈ lw_tbl := lw_at lw_m9 167 rfl
theorem q2207 : (Jvm.Cond.instanceMethod ({ cls := "java/util/TreeMap", name := "put", desc := "(Ljava/lang/Object;Ljava/lang/Object;)Ljava/lang/Object;" } : Jvm.MethodName)) ∈ lw_all := lw_g (lw_at lw_m9 168 rfl) rfl
theorem q2208 : (Jvm.Cond.publicMethod ({ cls := "java/util/TreeMap", name := "put", desc := "(Ljava/lang/Object;Ljava/lang/Object;)Ljava/lang/Object;" } : Jvm.MethodName)) ∈ lw_tbl := lw_at lw_m9 169 rfl
theorem q2209 : (Jvm.Cond.code ({ cls := "java/util/TreeMap", name := "put", desc := "(Ljava/lang/Object;Ljava/lang/Object;)Ljava/lang/Object;" } : Jvm.MethodName) prog_83_method_21_code (3 : Nat) (Option.some (Jvm.ClassFile.FieldType.object "java/lang/Object"))) ∈ lw_all := lw_g (lw_at lw_m9 170 rfl) rfl
theorem q2210 : (Jvm.Cond.methodLink "java/util/TreeMap" (127 : Nat) ({ cls := "java/util/TreeMap", name := "put", desc := "(Ljava/lang/Object;Ljava/lang/Object;Z)Ljava/lang/Object;" } : Jvm.MethodName)) ∈ lw_all := lw_g (lw_at lw_m9 171 rfl) rfl
theorem q2211 : (Jvm.Cond.privateMethod ({ cls := "java/util/TreeMap", name := "put", desc := "(Ljava/lang/Object;Ljava/lang/Object;Z)Ljava/lang/Object;" } : Jvm.MethodName)) ∈ lw_tbl := lw_at lw_m9 172 rfl
theorem q2212 : (Jvm.Cond.instanceMethod ({ cls := "java/util/TreeMap", name := "put", desc := "(Ljava/lang/Object;Ljava/lang/Object;Z)Ljava/lang/Object;" } : Jvm.MethodName)) ∈ lw_all := lw_g (lw_at lw_m9 173 rfl) rfl
theorem q2213 : (Jvm.Cond.instantiable "java/util/TreeMap" (9 : Nat)) ∈ lw_all := lw_g (lw_at lw_m9 174 rfl) rfl
theorem q2214 : (Jvm.Cond.code ({ cls := "java/util/TreeMap", name := "put", desc := "(Ljava/lang/Object;Ljava/lang/Object;Z)Ljava/lang/Object;" } : Jvm.MethodName) prog_83_method_31_code (10 : Nat) (Option.some (Jvm.ClassFile.FieldType.object "java/lang/Object"))) ∈ lw_all := lw_g (lw_at lw_m9 175 rfl) rfl
theorem q2215 : (Jvm.Cond.methodLink "java/util/TreeMap" (135 : Nat) ({ cls := "java/util/TreeMap", name := "addEntryToEmptyMap", desc := "(Ljava/lang/Object;Ljava/lang/Object;)V" } : Jvm.MethodName)) ∈ lw_all := lw_g (lw_at lw_m9 176 rfl) rfl
theorem q2216 : (Jvm.Cond.privateMethod ({ cls := "java/util/TreeMap", name := "addEntryToEmptyMap", desc := "(Ljava/lang/Object;Ljava/lang/Object;)V" } : Jvm.MethodName)) ∈ lw_tbl := lw_at lw_m9 177 rfl
theorem q2217 : (Jvm.Cond.instanceMethod ({ cls := "java/util/TreeMap", name := "addEntryToEmptyMap", desc := "(Ljava/lang/Object;Ljava/lang/Object;)V" } : Jvm.MethodName)) ∈ lw_all := lw_g (lw_at lw_m9 178 rfl) rfl
theorem q2218 : (Jvm.Cond.code ({ cls := "java/util/TreeMap", name := "addEntryToEmptyMap", desc := "(Ljava/lang/Object;Ljava/lang/Object;)V" } : Jvm.MethodName) prog_83_method_30_code (3 : Nat) (Option.none : Option Jvm.ClassFile.FieldType)) ∈ lw_all := lw_g (lw_at lw_m9 179 rfl) rfl
theorem q2219 : (Jvm.Cond.methodLink "java/util/TreeMap" (123 : Nat) ({ cls := "java/util/TreeMap", name := "compare", desc := "(Ljava/lang/Object;Ljava/lang/Object;)I" } : Jvm.MethodName)) ∈ lw_all := lw_g (lw_at lw_m9 180 rfl) rfl
theorem q2220 : (Jvm.Cond.instanceMethod ({ cls := "java/util/TreeMap", name := "compare", desc := "(Ljava/lang/Object;Ljava/lang/Object;)I" } : Jvm.MethodName)) ∈ lw_all := lw_g (lw_at lw_m9 181 rfl) rfl
theorem q2221 : (Jvm.Cond.selects "java/util/TreeMap" ({ cls := "java/util/TreeMap", name := "compare", desc := "(Ljava/lang/Object;Ljava/lang/Object;)I" } : Jvm.MethodName) ({ cls := "java/util/TreeMap", name := "compare", desc := "(Ljava/lang/Object;Ljava/lang/Object;)I" } : Jvm.MethodName)) ∈ lw_all := lw_g (lw_at lw_m9 182 rfl) rfl
theorem q2222 : (Jvm.Cond.code ({ cls := "java/util/TreeMap", name := "compare", desc := "(Ljava/lang/Object;Ljava/lang/Object;)I" } : Jvm.MethodName) prog_83_method_67_code (3 : Nat) (Option.some Jvm.ClassFile.FieldType.int)) ∈ lw_all := lw_g (lw_at lw_m9 183 rfl) rfl
theorem q2223 : (Jvm.Cond.classLink "java/util/TreeMap" (99 : Nat) "java/lang/Comparable") ∈ lw_all := lw_g (lw_at lw_m9 184 rfl) rfl
theorem q2224 : (Jvm.Cond.interfaceEntry "java/util/TreeMap" (107 : Nat)) ∈ lw_tbl := lw_at lw_m9 185 rfl
theorem q2225 : (Jvm.Cond.methodLink "java/util/TreeMap" (107 : Nat) ({ cls := "java/lang/Comparable", name := "compareTo", desc := "(Ljava/lang/Object;)I" } : Jvm.MethodName)) ∈ lw_all := lw_g (lw_at lw_m9 186 rfl) rfl
theorem q2226 : (Jvm.Cond.interfaceEntry "java/util/TreeMap" (117 : Nat)) ∈ lw_tbl := lw_at lw_m9 187 rfl
theorem q2227 : (Jvm.Cond.methodLink "java/util/TreeMap" (117 : Nat) ({ cls := "java/util/Comparator", name := "compare", desc := "(Ljava/lang/Object;Ljava/lang/Object;)I" } : Jvm.MethodName)) ∈ lw_all := lw_g (lw_at lw_m9 188 rfl) rfl
theorem q2228 : (Jvm.Cond.classLink "java/util/TreeMap" (59 : Nat) "java/util/TreeMap$Entry") ∈ lw_all := lw_g (lw_at lw_m9 189 rfl) rfl
theorem q2230 : (Jvm.Cond.methodLink "java/util/TreeMap" (167 : Nat) ({ cls := "java/util/TreeMap$Entry", name := "<init>", desc := "(Ljava/lang/Object;Ljava/lang/Object;Ljava/util/TreeMap$Entry;)V" } : Jvm.MethodName)) ∈ lw_all := lw_g (lw_at lw_m9 191 rfl) rfl
theorem q2236 : (Jvm.Cond.fieldLink "java/util/TreeMap" (105 : Nat) "java/util/TreeMap$Entry" "key" "Ljava/lang/Object;") ∈ lw_all := lw_g (lw_at lw_m9 197 rfl) rfl
theorem q2238 : (Jvm.Cond.fieldLink "java/util/TreeMap" (58 : Nat) "java/util/TreeMap$Entry" "value" "Ljava/lang/Object;") ∈ lw_all := lw_g (lw_at lw_m9 199 rfl) rfl
theorem q2239 : (Jvm.Cond.fieldLink "java/util/TreeMap" (111 : Nat) "java/util/TreeMap$Entry" "left" "Ljava/util/TreeMap$Entry;") ∈ lw_all := lw_g (lw_at lw_m9 200 rfl) rfl
theorem q2240 : (Jvm.Cond.fieldLink "java/util/TreeMap" (114 : Nat) "java/util/TreeMap$Entry" "right" "Ljava/util/TreeMap$Entry;") ∈ lw_all := lw_g (lw_at lw_m9 201 rfl) rfl
theorem q2242 : (Jvm.Cond.fieldLink "java/util/TreeMap" (124 : Nat) "java/util/TreeMap$Entry" "parent" "Ljava/util/TreeMap$Entry;") ∈ lw_all := lw_g (lw_at lw_m9 203 rfl) rfl
theorem q2244 : (Jvm.Cond.fieldLink "java/util/TreeMap" (290 : Nat) "java/util/TreeMap$Entry" "color" "Z") ∈ lw_all := lw_g (lw_at lw_m9 205 rfl) rfl
theorem q2258 : (Jvm.Cond.methodLink "java/util/TreeMap" (95 : Nat) ({ cls := "java/util/Objects", name := "requireNonNull", desc := "(Ljava/lang/Object;)Ljava/lang/Object;" } : Jvm.MethodName)) ∈ lw_all := lw_g (lw_at lw_m9 219 rfl) rfl
theorem q2261 : (Jvm.Cond.methodLink "java/util/TreeMap" (139 : Nat) ({ cls := "java/util/TreeMap", name := "addEntry", desc := "(Ljava/lang/Object;Ljava/lang/Object;Ljava/util/TreeMap$Entry;Z)V" } : Jvm.MethodName)) ∈ lw_all := lw_g (lw_at lw_m9 222 rfl) rfl
theorem q2262 : (Jvm.Cond.privateMethod ({ cls := "java/util/TreeMap", name := "addEntry", desc := "(Ljava/lang/Object;Ljava/lang/Object;Ljava/util/TreeMap$Entry;Z)V" } : Jvm.MethodName)) ∈ lw_tbl := lw_at lw_m9 223 rfl
theorem q2263 : (Jvm.Cond.instanceMethod ({ cls := "java/util/TreeMap", name := "addEntry", desc := "(Ljava/lang/Object;Ljava/lang/Object;Ljava/util/TreeMap$Entry;Z)V" } : Jvm.MethodName)) ∈ lw_all := lw_g (lw_at lw_m9 224 rfl) rfl
theorem q2264 : (Jvm.Cond.code ({ cls := "java/util/TreeMap", name := "addEntry", desc := "(Ljava/lang/Object;Ljava/lang/Object;Ljava/util/TreeMap$Entry;Z)V" } : Jvm.MethodName) prog_83_method_29_code (6 : Nat) (Option.none : Option Jvm.ClassFile.FieldType)) ∈ lw_all := lw_g (lw_at lw_m9 225 rfl) rfl
theorem q2265 : (Jvm.Cond.methodLink "java/util/TreeMap" (170 : Nat) ({ cls := "java/util/TreeMap", name := "fixAfterInsertion", desc := "(Ljava/util/TreeMap$Entry;)V" } : Jvm.MethodName)) ∈ lw_all := lw_g (lw_at lw_m9 226 rfl) rfl
theorem q2266 : (Jvm.Cond.privateMethod ({ cls := "java/util/TreeMap", name := "fixAfterInsertion", desc := "(Ljava/util/TreeMap$Entry;)V" } : Jvm.MethodName)) ∈ lw_tbl := lw_at lw_m9 227 rfl
theorem q2267 : (Jvm.Cond.instanceMethod ({ cls := "java/util/TreeMap", name := "fixAfterInsertion", desc := "(Ljava/util/TreeMap$Entry;)V" } : Jvm.MethodName)) ∈ lw_all := lw_g (lw_at lw_m9 228 rfl) rfl
theorem q2268 : (Jvm.Cond.code ({ cls := "java/util/TreeMap", name := "fixAfterInsertion", desc := "(Ljava/util/TreeMap$Entry;)V" } : Jvm.MethodName) prog_83_method_83_code (3 : Nat) (Option.none : Option Jvm.ClassFile.FieldType)) ∈ lw_all := lw_g (lw_at lw_m9 229 rfl) rfl
theorem q2269 : (Jvm.Cond.methodLink "java/util/TreeMap" (294 : Nat) ({ cls := "java/util/TreeMap", name := "parentOf", desc := "(Ljava/util/TreeMap$Entry;)Ljava/util/TreeMap$Entry;" } : Jvm.MethodName)) ∈ lw_all := lw_g (lw_at lw_m9 230 rfl) rfl
theorem q2270 : (Jvm.Cond.static ({ cls := "java/util/TreeMap", name := "parentOf", desc := "(Ljava/util/TreeMap$Entry;)Ljava/util/TreeMap$Entry;" } : Jvm.MethodName)) ∈ lw_all := lw_g (lw_at lw_m9 231 rfl) rfl
theorem q2271 : (Jvm.Cond.code ({ cls := "java/util/TreeMap", name := "parentOf", desc := "(Ljava/util/TreeMap$Entry;)Ljava/util/TreeMap$Entry;" } : Jvm.MethodName) prog_83_method_77_code (1 : Nat) (Option.some (Jvm.ClassFile.FieldType.object "java/util/TreeMap$Entry"))) ∈ lw_all := lw_g (lw_at lw_m9 232 rfl) rfl
theorem q2272 : (Jvm.Cond.methodLink "java/util/TreeMap" (297 : Nat) ({ cls := "java/util/TreeMap", name := "leftOf", desc := "(Ljava/util/TreeMap$Entry;)Ljava/util/TreeMap$Entry;" } : Jvm.MethodName)) ∈ lw_all := lw_g (lw_at lw_m9 233 rfl) rfl
theorem q2273 : (Jvm.Cond.static ({ cls := "java/util/TreeMap", name := "leftOf", desc := "(Ljava/util/TreeMap$Entry;)Ljava/util/TreeMap$Entry;" } : Jvm.MethodName)) ∈ lw_all := lw_g (lw_at lw_m9 234 rfl) rfl
theorem q2274 : (Jvm.Cond.code ({ cls := "java/util/TreeMap", name := "leftOf", desc := "(Ljava/util/TreeMap$Entry;)Ljava/util/TreeMap$Entry;" } : Jvm.MethodName) prog_83_method_79_code (1 : Nat) (Option.some (Jvm.ClassFile.FieldType.object "java/util/TreeMap$Entry"))) ∈ lw_all := lw_g (lw_at lw_m9 235 rfl) rfl
theorem q2275 : (Jvm.Cond.methodLink "java/util/TreeMap" (300 : Nat) ({ cls := "java/util/TreeMap", name := "rightOf", desc := "(Ljava/util/TreeMap$Entry;)Ljava/util/TreeMap$Entry;" } : Jvm.MethodName)) ∈ lw_all := lw_g (lw_at lw_m9 236 rfl) rfl
theorem q2276 : (Jvm.Cond.static ({ cls := "java/util/TreeMap", name := "rightOf", desc := "(Ljava/util/TreeMap$Entry;)Ljava/util/TreeMap$Entry;" } : Jvm.MethodName)) ∈ lw_all := lw_g (lw_at lw_m9 237 rfl) rfl
theorem q2277 : (Jvm.Cond.code ({ cls := "java/util/TreeMap", name := "rightOf", desc := "(Ljava/util/TreeMap$Entry;)Ljava/util/TreeMap$Entry;" } : Jvm.MethodName) prog_83_method_80_code (1 : Nat) (Option.some (Jvm.ClassFile.FieldType.object "java/util/TreeMap$Entry"))) ∈ lw_all := lw_g (lw_at lw_m9 238 rfl) rfl
theorem q2278 : (Jvm.Cond.methodLink "java/util/TreeMap" (303 : Nat) ({ cls := "java/util/TreeMap", name := "colorOf", desc := "(Ljava/util/TreeMap$Entry;)Z" } : Jvm.MethodName)) ∈ lw_all := lw_g (lw_at lw_m9 239 rfl) rfl
theorem q2279 : (Jvm.Cond.static ({ cls := "java/util/TreeMap", name := "colorOf", desc := "(Ljava/util/TreeMap$Entry;)Z" } : Jvm.MethodName)) ∈ lw_all := lw_g (lw_at lw_m10 0 rfl) rfl
theorem q2280 : (Jvm.Cond.code ({ cls := "java/util/TreeMap", name := "colorOf", desc := "(Ljava/util/TreeMap$Entry;)Z" } : Jvm.MethodName) prog_83_method_76_code (1 : Nat) (Option.some Jvm.ClassFile.FieldType.boolean)) ∈ lw_all := lw_g (lw_at lw_m10 1 rfl) rfl
theorem q2281 : (Jvm.Cond.methodLink "java/util/TreeMap" (307 : Nat) ({ cls := "java/util/TreeMap", name := "setColor", desc := "(Ljava/util/TreeMap$Entry;Z)V" } : Jvm.MethodName)) ∈ lw_all := lw_g (lw_at lw_m10 2 rfl) rfl
theorem q2282 : (Jvm.Cond.static ({ cls := "java/util/TreeMap", name := "setColor", desc := "(Ljava/util/TreeMap$Entry;Z)V" } : Jvm.MethodName)) ∈ lw_all := lw_g (lw_at lw_m10 3 rfl) rfl
theorem q2283 : (Jvm.Cond.code ({ cls := "java/util/TreeMap", name := "setColor", desc := "(Ljava/util/TreeMap$Entry;Z)V" } : Jvm.MethodName) prog_83_method_78_code (2 : Nat) (Option.none : Option Jvm.ClassFile.FieldType)) ∈ lw_all := lw_g (lw_at lw_m10 4 rfl) rfl
theorem q2284 : (Jvm.Cond.methodLink "java/util/TreeMap" (311 : Nat) ({ cls := "java/util/TreeMap", name := "rotateLeft", desc := "(Ljava/util/TreeMap$Entry;)V" } : Jvm.MethodName)) ∈ lw_all := lw_g (lw_at lw_m10 5 rfl) rfl
theorem q2285 : (Jvm.Cond.privateMethod ({ cls := "java/util/TreeMap", name := "rotateLeft", desc := "(Ljava/util/TreeMap$Entry;)V" } : Jvm.MethodName)) ∈ lw_tbl := lw_at lw_m10 6 rfl
theorem q2286 : (Jvm.Cond.instanceMethod ({ cls := "java/util/TreeMap", name := "rotateLeft", desc := "(Ljava/util/TreeMap$Entry;)V" } : Jvm.MethodName)) ∈ lw_all := lw_g (lw_at lw_m10 7 rfl) rfl
theorem q2287 : (Jvm.Cond.code ({ cls := "java/util/TreeMap", name := "rotateLeft", desc := "(Ljava/util/TreeMap$Entry;)V" } : Jvm.MethodName) prog_83_method_81_code (3 : Nat) (Option.none : Option Jvm.ClassFile.FieldType)) ∈ lw_all := lw_g (lw_at lw_m10 8 rfl) rfl
theorem q2288 : (Jvm.Cond.methodLink "java/util/TreeMap" (314 : Nat) ({ cls := "java/util/TreeMap", name := "rotateRight", desc := "(Ljava/util/TreeMap$Entry;)V" } : Jvm.MethodName)) ∈ lw_all := lw_g (lw_at lw_m10 9 rfl) rfl
theorem q2289 : (Jvm.Cond.privateMethod ({ cls := "java/util/TreeMap", name := "rotateRight", desc := "(Ljava/util/TreeMap$Entry;)V" } : Jvm.MethodName)) ∈ lw_tbl := lw_at lw_m10 10 rfl
theorem q2290 : (Jvm.Cond.instanceMethod ({ cls := "java/util/TreeMap", name := "rotateRight", desc := "(Ljava/util/TreeMap$Entry;)V" } : Jvm.MethodName)) ∈ lw_all := lw_g (lw_at lw_m10 11 rfl) rfl
theorem q2291 : (Jvm.Cond.code ({ cls := "java/util/TreeMap", name := "rotateRight", desc := "(Ljava/util/TreeMap$Entry;)V" } : Jvm.MethodName) prog_83_method_82_code (3 : Nat) (Option.none : Option Jvm.ClassFile.FieldType)) ∈ lw_all := lw_g (lw_at lw_m10 12 rfl) rfl
theorem q3040 : (Jvm.Cond.instanceMethod ({ cls := "java/util/TreeMap", name := "<init>", desc := "()V" } : Jvm.MethodName)) ∈ lw_all := lw_g (lw_at lw_m13 41 rfl) rfl
theorem q3041 : (Jvm.Cond.code ({ cls := "java/util/TreeMap", name := "<init>", desc := "()V" } : Jvm.MethodName) prog_83_method_1_code (1 : Nat) (Option.none : Option Jvm.ClassFile.FieldType)) ∈ lw_all := lw_g (lw_at lw_m13 42 rfl) rfl
theorem q3042 : (Jvm.Cond.methodLink "java/util/TreeMap" (1 : Nat) ({ cls := "java/util/AbstractMap", name := "<init>", desc := "()V" } : Jvm.MethodName)) ∈ lw_all := lw_g (lw_at lw_m13 43 rfl) rfl
theorem q3043 : (Jvm.Cond.fieldLink "java/util/TreeMap" (16 : Nat) "java/util/TreeMap" "comparator" "Ljava/util/Comparator;") ∈ lw_all := lw_g (lw_at lw_m13 44 rfl) rfl
theorem q3044 : (Jvm.Cond.fieldLink "java/util/TreeMap" (101 : Nat) "java/util/TreeMap" "root" "Ljava/util/TreeMap$Entry;") ∈ lw_all := lw_g (lw_at lw_m13 45 rfl) rfl
theorem q3045 : (Jvm.Cond.fieldLink "java/util/TreeMap" (7 : Nat) "java/util/TreeMap" "size" "I") ∈ lw_all := lw_g (lw_at lw_m13 46 rfl) rfl
theorem q3047 : (Jvm.Cond.fieldLink "java/util/TreeMap" (13 : Nat) "java/util/TreeMap" "modCount" "I") ∈ lw_all := lw_g (lw_at lw_m13 48 rfl) rfl
theorem q3048 : (Jvm.Cond.fieldLink "java/util/TreeMap" (191 : Nat) "java/util/TreeMap" "navigableKeySet" "Ljava/util/TreeMap$KeySet;") ∈ lw_all := lw_g (lw_at lw_m13 49 rfl) rfl
theorem q3049 : (Jvm.Cond.laysFinal "java/util/TreeMap" "java/util/TreeMap" "comparator" "Ljava/util/Comparator;") ∈ lw_all := lw_g (lw_at lw_m13 50 rfl) rfl
theorem q3050 : (Jvm.Cond.soleField "java/util/TreeMap" "comparator") ∈ lw_all := lw_g (lw_at lw_m13 51 rfl) rfl
theorem q3051 : (Jvm.Cond.lays "java/util/TreeMap" "java/util/TreeMap" "root" "Ljava/util/TreeMap$Entry;") ∈ lw_all := lw_g (lw_at lw_m13 52 rfl) rfl
theorem q3052 : (Jvm.Cond.soleField "java/util/TreeMap" "root") ∈ lw_all := lw_g (lw_at lw_m13 53 rfl) rfl
theorem q3053 : (Jvm.Cond.lays "java/util/TreeMap" "java/util/TreeMap" "size" "I") ∈ lw_all := lw_g (lw_at lw_m13 54 rfl) rfl
theorem q3054 : (Jvm.Cond.soleField "java/util/TreeMap" "size") ∈ lw_all := lw_g (lw_at lw_m13 55 rfl) rfl
theorem q3055 : (Jvm.Cond.lays "java/util/TreeMap" "java/util/TreeMap" "modCount" "I") ∈ lw_all := lw_g (lw_at lw_m13 56 rfl) rfl
theorem q3056 : (Jvm.Cond.soleField "java/util/TreeMap" "modCount") ∈ lw_all := lw_g (lw_at lw_m13 57 rfl) rfl
theorem q3057 : (Jvm.Cond.lays "java/util/TreeMap" "java/util/TreeMap" "entrySet" "Ljava/util/TreeMap$EntrySet;") ∈ lw_all := lw_g (lw_at lw_m13 58 rfl) rfl
theorem q3058 : (Jvm.Cond.soleField "java/util/TreeMap" "entrySet") ∈ lw_all := lw_g (lw_at lw_m13 59 rfl) rfl
theorem q3059 : (Jvm.Cond.lays "java/util/TreeMap" "java/util/TreeMap" "navigableKeySet" "Ljava/util/TreeMap$KeySet;") ∈ lw_all := lw_g (lw_at lw_m13 60 rfl) rfl
theorem q3060 : (Jvm.Cond.soleField "java/util/TreeMap" "navigableKeySet") ∈ lw_all := lw_g (lw_at lw_m13 61 rfl) rfl
theorem q3061 : (Jvm.Cond.lays "java/util/TreeMap" "java/util/TreeMap" "descendingMap" "Ljava/util/NavigableMap;") ∈ lw_all := lw_g (lw_at lw_m13 62 rfl) rfl
theorem q3062 : (Jvm.Cond.soleField "java/util/TreeMap" "descendingMap") ∈ lw_all := lw_g (lw_at lw_m13 63 rfl) rfl
theorem q3063 : (Jvm.Cond.lays "java/util/TreeMap" "java/util/AbstractMap" "keySet" "Ljava/util/Set;") ∈ lw_all := lw_g (lw_at lw_m13 64 rfl) rfl
theorem q3064 : (Jvm.Cond.lays "java/util/TreeMap" "java/util/AbstractMap" "values" "Ljava/util/Collection;") ∈ lw_all := lw_g (lw_at lw_m13 65 rfl) rfl
theorem q3065 : (Jvm.Cond.superclass "java/util/TreeMap" "java/util/AbstractMap") ∈ lw_all := lw_g (lw_at lw_m13 66 rfl) rfl
theorem q3824 : (Jvm.Cond.castable "java/util/TreeMap" "java/lang/Object") ∈ lw_tbl := lw_at lw_m16 105 rfl
theorem in_J23 : ∀ w ∈ wsJ230, w ∈ lw_all := lw_in wsJ230 [3063, 3064, 3049, 3051, 3053, 3055, 3057, 3059, 3061] (by decide +kernel) (by decide +kernel)

/-! java/util/HashMap$HashIterator -/
set_option maxRecDepth 100000
def RJ24 : String := "java/util/HashMap$HashIterator"
abbrev cJ24_init : ByteArray := prog_59_method_1_code
def yJ24_init : MethodName := ⟨RJ24, "<init>", "(Ljava/util/HashMap;)V"⟩
def dkwJ24_init_3 : List UInt8 := [181, 0, 26, 198, 255, 229, 177]
abbrev dktJ24_init_3 : List UInt8 := dkwJ24_init_3 ++ []
def dkwJ24_init_2 : List UInt8 := [42, 180, 0, 33, 44, 190, 162, 0, 24, 42, 44, 42, 89, 180, 0, 33, 90, 4, 96, 181, 0, 33, 50, 90]
abbrev dktJ24_init_2 : List UInt8 := dkwJ24_init_2 ++ dktJ24_init_3
def dkwJ24_init_1 : List UInt8 := [1, 90, 181, 0, 26, 181, 0, 30, 42, 3, 181, 0, 33, 44, 198, 0, 40, 43, 180, 0, 36, 158, 0, 33]
abbrev dktJ24_init_1 : List UInt8 := dkwJ24_init_1 ++ dktJ24_init_2
def dkwJ24_init_0 : List UInt8 := [42, 43, 181, 0, 1, 42, 183, 0, 7, 42, 43, 180, 0, 13, 181, 0, 19, 43, 180, 0, 22, 77, 42, 42]
abbrev dktJ24_init_0 : List UInt8 := dkwJ24_init_0 ++ dktJ24_init_1
theorem dksJ24_init_0 : cJ24_init.data.toList.drop 0 = dktJ24_init_0 := by decide +kernel
theorem dksJ24_init_1 : cJ24_init.data.toList.drop 24 = dktJ24_init_1 := dk_seg dksJ24_init_0 24 rfl rfl
theorem dksJ24_init_2 : cJ24_init.data.toList.drop 48 = dktJ24_init_2 := dk_seg dksJ24_init_1 24 rfl rfl
theorem dksJ24_init_3 : cJ24_init.data.toList.drop 72 = dktJ24_init_3 := dk_seg dksJ24_init_2 24 rfl rfl
theorem dJ24_init_0 : decode cJ24_init 0 = .ok (.aload_n 0, 1) := dk_42 (dk_at dksJ24_init_0 0 rfl rfl)
theorem dJ24_init_1 : decode cJ24_init 1 = .ok (.aload_n 1, 1) := dk_43 (dk_at dksJ24_init_0 1 rfl rfl)
theorem dJ24_init_2 : decode cJ24_init 2 = .ok (.putfield 1, 3) := dk_181 0 1 (dk_at dksJ24_init_0 2 rfl rfl)
theorem dJ24_init_5 : decode cJ24_init 5 = .ok (.aload_n 0, 1) := dk_42 (dk_at dksJ24_init_0 5 rfl rfl)
theorem dJ24_init_6 : decode cJ24_init 6 = .ok (.invokespecial 7, 3) := dk_183 0 7 (dk_at dksJ24_init_0 6 rfl rfl)
theorem dJ24_init_9 : decode cJ24_init 9 = .ok (.aload_n 0, 1) := dk_42 (dk_at dksJ24_init_0 9 rfl rfl)
theorem dJ24_init_10 : decode cJ24_init 10 = .ok (.aload_n 1, 1) := dk_43 (dk_at dksJ24_init_0 10 rfl rfl)
theorem dJ24_init_11 : decode cJ24_init 11 = .ok (.getfield 13, 3) := dk_180 0 13 (dk_at dksJ24_init_0 11 rfl rfl)
theorem dJ24_init_14 : decode cJ24_init 14 = .ok (.putfield 19, 3) := dk_181 0 19 (dk_at dksJ24_init_0 14 rfl rfl)
theorem dJ24_init_17 : decode cJ24_init 17 = .ok (.aload_n 1, 1) := dk_43 (dk_at dksJ24_init_0 17 rfl rfl)
theorem dJ24_init_18 : decode cJ24_init 18 = .ok (.getfield 22, 3) := dk_180 0 22 (dk_at dksJ24_init_0 18 rfl rfl)
theorem dJ24_init_21 : decode cJ24_init 21 = .ok (.astore_n 2, 1) := dk_77 (dk_at dksJ24_init_0 21 rfl rfl)
theorem dJ24_init_22 : decode cJ24_init 22 = .ok (.aload_n 0, 1) := dk_42 (dk_at dksJ24_init_0 22 rfl rfl)
theorem dJ24_init_23 : decode cJ24_init 23 = .ok (.aload_n 0, 1) := dk_42 (dk_at dksJ24_init_0 23 rfl rfl)
theorem dJ24_init_24 : decode cJ24_init 24 = .ok (.aconst_null, 1) := dk_1 (dk_at dksJ24_init_1 0 rfl rfl)
theorem dJ24_init_25 : decode cJ24_init 25 = .ok (.dup_x1, 1) := dk_90 (dk_at dksJ24_init_1 1 rfl rfl)
theorem dJ24_init_26 : decode cJ24_init 26 = .ok (.putfield 26, 3) := dk_181 0 26 (dk_at dksJ24_init_1 2 rfl rfl)
theorem dJ24_init_29 : decode cJ24_init 29 = .ok (.putfield 30, 3) := dk_181 0 30 (dk_at dksJ24_init_1 5 rfl rfl)
theorem dJ24_init_32 : decode cJ24_init 32 = .ok (.aload_n 0, 1) := dk_42 (dk_at dksJ24_init_1 8 rfl rfl)
theorem dJ24_init_33 : decode cJ24_init 33 = .ok (.iconst 0, 1) := dk_3 (dk_at dksJ24_init_1 9 rfl rfl)
theorem dJ24_init_34 : decode cJ24_init 34 = .ok (.putfield 33, 3) := dk_181 0 33 (dk_at dksJ24_init_1 10 rfl rfl)
theorem dJ24_init_37 : decode cJ24_init 37 = .ok (.aload_n 2, 1) := dk_44 (dk_at dksJ24_init_1 13 rfl rfl)
theorem dJ24_init_38 : decode cJ24_init 38 = .ok (.ifnull 40, 3) := dk_198 0 40 (dk_at dksJ24_init_1 14 rfl rfl)
theorem dJ24_init_41 : decode cJ24_init 41 = .ok (.aload_n 1, 1) := dk_43 (dk_at dksJ24_init_1 17 rfl rfl)
theorem dJ24_init_42 : decode cJ24_init 42 = .ok (.getfield 36, 3) := dk_180 0 36 (dk_at dksJ24_init_1 18 rfl rfl)
theorem dJ24_init_45 : decode cJ24_init 45 = .ok (.ifCond .le 33, 3) := dk_158 0 33 (dk_at dksJ24_init_1 21 rfl rfl)
theorem dJ24_init_48 : decode cJ24_init 48 = .ok (.aload_n 0, 1) := dk_42 (dk_at dksJ24_init_2 0 rfl rfl)
theorem dJ24_init_49 : decode cJ24_init 49 = .ok (.getfield 33, 3) := dk_180 0 33 (dk_at dksJ24_init_2 1 rfl rfl)
theorem dJ24_init_52 : decode cJ24_init 52 = .ok (.aload_n 2, 1) := dk_44 (dk_at dksJ24_init_2 4 rfl rfl)
theorem dJ24_init_53 : decode cJ24_init 53 = .ok (.arraylength, 1) := dk_190 (dk_at dksJ24_init_2 5 rfl rfl)
theorem dJ24_init_54 : decode cJ24_init 54 = .ok (.if_icmp .ge 24, 3) := dk_162 0 24 (dk_at dksJ24_init_2 6 rfl rfl)
theorem dJ24_init_57 : decode cJ24_init 57 = .ok (.aload_n 0, 1) := dk_42 (dk_at dksJ24_init_2 9 rfl rfl)
theorem dJ24_init_58 : decode cJ24_init 58 = .ok (.aload_n 2, 1) := dk_44 (dk_at dksJ24_init_2 10 rfl rfl)
theorem dJ24_init_59 : decode cJ24_init 59 = .ok (.aload_n 0, 1) := dk_42 (dk_at dksJ24_init_2 11 rfl rfl)
theorem dJ24_init_60 : decode cJ24_init 60 = .ok (.dup, 1) := dk_89 (dk_at dksJ24_init_2 12 rfl rfl)
theorem dJ24_init_61 : decode cJ24_init 61 = .ok (.getfield 33, 3) := dk_180 0 33 (dk_at dksJ24_init_2 13 rfl rfl)
theorem dJ24_init_64 : decode cJ24_init 64 = .ok (.dup_x1, 1) := dk_90 (dk_at dksJ24_init_2 16 rfl rfl)
theorem dJ24_init_65 : decode cJ24_init 65 = .ok (.iconst 1, 1) := dk_4 (dk_at dksJ24_init_2 17 rfl rfl)
theorem dJ24_init_66 : decode cJ24_init 66 = .ok (.iadd, 1) := dk_96 (dk_at dksJ24_init_2 18 rfl rfl)
theorem dJ24_init_67 : decode cJ24_init 67 = .ok (.putfield 33, 3) := dk_181 0 33 (dk_at dksJ24_init_2 19 rfl rfl)
theorem dJ24_init_70 : decode cJ24_init 70 = .ok (.aaload, 1) := dk_50 (dk_at dksJ24_init_2 22 rfl rfl)
theorem dJ24_init_71 : decode cJ24_init 71 = .ok (.dup_x1, 1) := dk_90 (dk_at dksJ24_init_2 23 rfl rfl)
theorem dJ24_init_72 : decode cJ24_init 72 = .ok (.putfield 26, 3) := dk_181 0 26 (dk_at dksJ24_init_3 0 rfl rfl)
theorem dJ24_init_75 : decode cJ24_init 75 = .ok (.ifnull (-27), 3) := dk_198 255 229 (dk_at dksJ24_init_3 3 rfl rfl)
theorem dJ24_init_78 : decode cJ24_init 78 = .ok (.return_, 1) := dk_177 (dk_at dksJ24_init_3 6 rfl rfl)
abbrev cJ24_hasNext : ByteArray := prog_59_method_2_code
def yJ24_hasNext : MethodName := ⟨RJ24, "hasNext", "()Z"⟩
def dkwJ24_hasNext_0 : List UInt8 := [42, 180, 0, 26, 198, 0, 7, 4, 167, 0, 4, 3, 172]
abbrev dktJ24_hasNext_0 : List UInt8 := dkwJ24_hasNext_0 ++ []
theorem dksJ24_hasNext_0 : cJ24_hasNext.data.toList.drop 0 = dktJ24_hasNext_0 := by decide +kernel
theorem dJ24_hasNext_0 : decode cJ24_hasNext 0 = .ok (.aload_n 0, 1) := dk_42 (dk_at dksJ24_hasNext_0 0 rfl rfl)
theorem dJ24_hasNext_1 : decode cJ24_hasNext 1 = .ok (.getfield 26, 3) := dk_180 0 26 (dk_at dksJ24_hasNext_0 1 rfl rfl)
theorem dJ24_hasNext_4 : decode cJ24_hasNext 4 = .ok (.ifnull 7, 3) := dk_198 0 7 (dk_at dksJ24_hasNext_0 4 rfl rfl)
theorem dJ24_hasNext_7 : decode cJ24_hasNext 7 = .ok (.iconst 1, 1) := dk_4 (dk_at dksJ24_hasNext_0 7 rfl rfl)
theorem dJ24_hasNext_8 : decode cJ24_hasNext 8 = .ok (.goto 4, 3) := dk_167 0 4 (dk_at dksJ24_hasNext_0 8 rfl rfl)
theorem dJ24_hasNext_11 : decode cJ24_hasNext 11 = .ok (.iconst 0, 1) := dk_3 (dk_at dksJ24_hasNext_0 11 rfl rfl)
theorem dJ24_hasNext_12 : decode cJ24_hasNext 12 = .ok (.ireturn, 1) := dk_172 (dk_at dksJ24_hasNext_0 12 rfl rfl)
abbrev cJ24_nextNode : ByteArray := prog_59_method_3_code
def yJ24_nextNode : MethodName := ⟨RJ24, "nextNode", "()Ljava/util/HashMap$Node;"⟩
def dkwJ24_nextNode_4 : List UInt8 := [181, 0, 26, 198, 255, 229, 44, 176]
abbrev dktJ24_nextNode_4 : List UInt8 := dkwJ24_nextNode_4 ++ []
def dkwJ24_nextNode_3 : List UInt8 := [180, 0, 33, 43, 190, 162, 0, 24, 42, 43, 42, 89, 180, 0, 33, 90, 4, 96, 181, 0, 33, 50, 90]
abbrev dktJ24_nextNode_3 : List UInt8 := dkwJ24_nextNode_3 ++ dktJ24_nextNode_4
def dkwJ24_nextNode_2 : List UInt8 := [180, 0, 45, 90, 181, 0, 26, 199, 0, 45, 42, 180, 0, 1, 180, 0, 22, 89, 76, 198, 0, 33, 42]
abbrev dktJ24_nextNode_2 : List UInt8 := dkwJ24_nextNode_2 ++ dktJ24_nextNode_3
def dkwJ24_nextNode_1 : List UInt8 := [183, 0, 41, 191, 44, 199, 0, 11, 187, 0, 42, 89, 183, 0, 44, 191, 42, 42, 44, 90, 181, 0, 30]
abbrev dktJ24_nextNode_1 : List UInt8 := dkwJ24_nextNode_1 ++ dktJ24_nextNode_2
def dkwJ24_nextNode_0 : List UInt8 := [42, 180, 0, 26, 77, 42, 180, 0, 1, 180, 0, 13, 42, 180, 0, 19, 159, 0, 11, 187, 0, 39, 89]
abbrev dktJ24_nextNode_0 : List UInt8 := dkwJ24_nextNode_0 ++ dktJ24_nextNode_1
theorem dksJ24_nextNode_0 : cJ24_nextNode.data.toList.drop 0 = dktJ24_nextNode_0 := by decide +kernel
theorem dksJ24_nextNode_1 : cJ24_nextNode.data.toList.drop 23 = dktJ24_nextNode_1 := dk_seg dksJ24_nextNode_0 23 rfl rfl
theorem dksJ24_nextNode_2 : cJ24_nextNode.data.toList.drop 46 = dktJ24_nextNode_2 := dk_seg dksJ24_nextNode_1 23 rfl rfl
theorem dksJ24_nextNode_3 : cJ24_nextNode.data.toList.drop 69 = dktJ24_nextNode_3 := dk_seg dksJ24_nextNode_2 23 rfl rfl
theorem dksJ24_nextNode_4 : cJ24_nextNode.data.toList.drop 92 = dktJ24_nextNode_4 := dk_seg dksJ24_nextNode_3 23 rfl rfl
theorem dJ24_nextNode_0 : decode cJ24_nextNode 0 = .ok (.aload_n 0, 1) := dk_42 (dk_at dksJ24_nextNode_0 0 rfl rfl)
theorem dJ24_nextNode_1 : decode cJ24_nextNode 1 = .ok (.getfield 26, 3) := dk_180 0 26 (dk_at dksJ24_nextNode_0 1 rfl rfl)
theorem dJ24_nextNode_4 : decode cJ24_nextNode 4 = .ok (.astore_n 2, 1) := dk_77 (dk_at dksJ24_nextNode_0 4 rfl rfl)
theorem dJ24_nextNode_5 : decode cJ24_nextNode 5 = .ok (.aload_n 0, 1) := dk_42 (dk_at dksJ24_nextNode_0 5 rfl rfl)
theorem dJ24_nextNode_6 : decode cJ24_nextNode 6 = .ok (.getfield 1, 3) := dk_180 0 1 (dk_at dksJ24_nextNode_0 6 rfl rfl)
theorem dJ24_nextNode_9 : decode cJ24_nextNode 9 = .ok (.getfield 13, 3) := dk_180 0 13 (dk_at dksJ24_nextNode_0 9 rfl rfl)
theorem dJ24_nextNode_12 : decode cJ24_nextNode 12 = .ok (.aload_n 0, 1) := dk_42 (dk_at dksJ24_nextNode_0 12 rfl rfl)
theorem dJ24_nextNode_13 : decode cJ24_nextNode 13 = .ok (.getfield 19, 3) := dk_180 0 19 (dk_at dksJ24_nextNode_0 13 rfl rfl)
theorem dJ24_nextNode_16 : decode cJ24_nextNode 16 = .ok (.if_icmp .eq 11, 3) := dk_159 0 11 (dk_at dksJ24_nextNode_0 16 rfl rfl)
theorem dJ24_nextNode_19 : decode cJ24_nextNode 19 = .ok (.new 39, 3) := dk_187 0 39 (dk_at dksJ24_nextNode_0 19 rfl rfl)
theorem dJ24_nextNode_22 : decode cJ24_nextNode 22 = .ok (.dup, 1) := dk_89 (dk_at dksJ24_nextNode_0 22 rfl rfl)
theorem dJ24_nextNode_23 : decode cJ24_nextNode 23 = .ok (.invokespecial 41, 3) := dk_183 0 41 (dk_at dksJ24_nextNode_1 0 rfl rfl)
theorem dJ24_nextNode_26 : decode cJ24_nextNode 26 = .ok (.athrow, 1) := dk_191 (dk_at dksJ24_nextNode_1 3 rfl rfl)
theorem dJ24_nextNode_27 : decode cJ24_nextNode 27 = .ok (.aload_n 2, 1) := dk_44 (dk_at dksJ24_nextNode_1 4 rfl rfl)
theorem dJ24_nextNode_28 : decode cJ24_nextNode 28 = .ok (.ifnonnull 11, 3) := dk_199 0 11 (dk_at dksJ24_nextNode_1 5 rfl rfl)
theorem dJ24_nextNode_31 : decode cJ24_nextNode 31 = .ok (.new 42, 3) := dk_187 0 42 (dk_at dksJ24_nextNode_1 8 rfl rfl)
theorem dJ24_nextNode_34 : decode cJ24_nextNode 34 = .ok (.dup, 1) := dk_89 (dk_at dksJ24_nextNode_1 11 rfl rfl)
theorem dJ24_nextNode_35 : decode cJ24_nextNode 35 = .ok (.invokespecial 44, 3) := dk_183 0 44 (dk_at dksJ24_nextNode_1 12 rfl rfl)
theorem dJ24_nextNode_38 : decode cJ24_nextNode 38 = .ok (.athrow, 1) := dk_191 (dk_at dksJ24_nextNode_1 15 rfl rfl)
theorem dJ24_nextNode_39 : decode cJ24_nextNode 39 = .ok (.aload_n 0, 1) := dk_42 (dk_at dksJ24_nextNode_1 16 rfl rfl)
theorem dJ24_nextNode_40 : decode cJ24_nextNode 40 = .ok (.aload_n 0, 1) := dk_42 (dk_at dksJ24_nextNode_1 17 rfl rfl)
theorem dJ24_nextNode_41 : decode cJ24_nextNode 41 = .ok (.aload_n 2, 1) := dk_44 (dk_at dksJ24_nextNode_1 18 rfl rfl)
theorem dJ24_nextNode_42 : decode cJ24_nextNode 42 = .ok (.dup_x1, 1) := dk_90 (dk_at dksJ24_nextNode_1 19 rfl rfl)
theorem dJ24_nextNode_43 : decode cJ24_nextNode 43 = .ok (.putfield 30, 3) := dk_181 0 30 (dk_at dksJ24_nextNode_1 20 rfl rfl)
theorem dJ24_nextNode_46 : decode cJ24_nextNode 46 = .ok (.getfield 45, 3) := dk_180 0 45 (dk_at dksJ24_nextNode_2 0 rfl rfl)
theorem dJ24_nextNode_49 : decode cJ24_nextNode 49 = .ok (.dup_x1, 1) := dk_90 (dk_at dksJ24_nextNode_2 3 rfl rfl)
theorem dJ24_nextNode_50 : decode cJ24_nextNode 50 = .ok (.putfield 26, 3) := dk_181 0 26 (dk_at dksJ24_nextNode_2 4 rfl rfl)
theorem dJ24_nextNode_53 : decode cJ24_nextNode 53 = .ok (.ifnonnull 45, 3) := dk_199 0 45 (dk_at dksJ24_nextNode_2 7 rfl rfl)
theorem dJ24_nextNode_56 : decode cJ24_nextNode 56 = .ok (.aload_n 0, 1) := dk_42 (dk_at dksJ24_nextNode_2 10 rfl rfl)
theorem dJ24_nextNode_57 : decode cJ24_nextNode 57 = .ok (.getfield 1, 3) := dk_180 0 1 (dk_at dksJ24_nextNode_2 11 rfl rfl)
theorem dJ24_nextNode_60 : decode cJ24_nextNode 60 = .ok (.getfield 22, 3) := dk_180 0 22 (dk_at dksJ24_nextNode_2 14 rfl rfl)
theorem dJ24_nextNode_63 : decode cJ24_nextNode 63 = .ok (.dup, 1) := dk_89 (dk_at dksJ24_nextNode_2 17 rfl rfl)
theorem dJ24_nextNode_64 : decode cJ24_nextNode 64 = .ok (.astore_n 1, 1) := dk_76 (dk_at dksJ24_nextNode_2 18 rfl rfl)
theorem dJ24_nextNode_65 : decode cJ24_nextNode 65 = .ok (.ifnull 33, 3) := dk_198 0 33 (dk_at dksJ24_nextNode_2 19 rfl rfl)
theorem dJ24_nextNode_68 : decode cJ24_nextNode 68 = .ok (.aload_n 0, 1) := dk_42 (dk_at dksJ24_nextNode_2 22 rfl rfl)
theorem dJ24_nextNode_69 : decode cJ24_nextNode 69 = .ok (.getfield 33, 3) := dk_180 0 33 (dk_at dksJ24_nextNode_3 0 rfl rfl)
theorem dJ24_nextNode_72 : decode cJ24_nextNode 72 = .ok (.aload_n 1, 1) := dk_43 (dk_at dksJ24_nextNode_3 3 rfl rfl)
theorem dJ24_nextNode_73 : decode cJ24_nextNode 73 = .ok (.arraylength, 1) := dk_190 (dk_at dksJ24_nextNode_3 4 rfl rfl)
theorem dJ24_nextNode_74 : decode cJ24_nextNode 74 = .ok (.if_icmp .ge 24, 3) := dk_162 0 24 (dk_at dksJ24_nextNode_3 5 rfl rfl)
theorem dJ24_nextNode_77 : decode cJ24_nextNode 77 = .ok (.aload_n 0, 1) := dk_42 (dk_at dksJ24_nextNode_3 8 rfl rfl)
theorem dJ24_nextNode_78 : decode cJ24_nextNode 78 = .ok (.aload_n 1, 1) := dk_43 (dk_at dksJ24_nextNode_3 9 rfl rfl)
theorem dJ24_nextNode_79 : decode cJ24_nextNode 79 = .ok (.aload_n 0, 1) := dk_42 (dk_at dksJ24_nextNode_3 10 rfl rfl)
theorem dJ24_nextNode_80 : decode cJ24_nextNode 80 = .ok (.dup, 1) := dk_89 (dk_at dksJ24_nextNode_3 11 rfl rfl)
theorem dJ24_nextNode_81 : decode cJ24_nextNode 81 = .ok (.getfield 33, 3) := dk_180 0 33 (dk_at dksJ24_nextNode_3 12 rfl rfl)
theorem dJ24_nextNode_84 : decode cJ24_nextNode 84 = .ok (.dup_x1, 1) := dk_90 (dk_at dksJ24_nextNode_3 15 rfl rfl)
theorem dJ24_nextNode_85 : decode cJ24_nextNode 85 = .ok (.iconst 1, 1) := dk_4 (dk_at dksJ24_nextNode_3 16 rfl rfl)
theorem dJ24_nextNode_86 : decode cJ24_nextNode 86 = .ok (.iadd, 1) := dk_96 (dk_at dksJ24_nextNode_3 17 rfl rfl)
theorem dJ24_nextNode_87 : decode cJ24_nextNode 87 = .ok (.putfield 33, 3) := dk_181 0 33 (dk_at dksJ24_nextNode_3 18 rfl rfl)
theorem dJ24_nextNode_90 : decode cJ24_nextNode 90 = .ok (.aaload, 1) := dk_50 (dk_at dksJ24_nextNode_3 21 rfl rfl)
theorem dJ24_nextNode_91 : decode cJ24_nextNode 91 = .ok (.dup_x1, 1) := dk_90 (dk_at dksJ24_nextNode_3 22 rfl rfl)
theorem dJ24_nextNode_92 : decode cJ24_nextNode 92 = .ok (.putfield 26, 3) := dk_181 0 26 (dk_at dksJ24_nextNode_4 0 rfl rfl)
theorem dJ24_nextNode_95 : decode cJ24_nextNode 95 = .ok (.ifnull (-27), 3) := dk_198 255 229 (dk_at dksJ24_nextNode_4 3 rfl rfl)
theorem dJ24_nextNode_98 : decode cJ24_nextNode 98 = .ok (.aload_n 2, 1) := dk_44 (dk_at dksJ24_nextNode_4 6 rfl rfl)
theorem dJ24_nextNode_99 : decode cJ24_nextNode 99 = .ok (.areturn, 1) := dk_176 (dk_at dksJ24_nextNode_4 7 rfl rfl)
theorem q150 : (Jvm.Cond.initialized "java/util/HashMap$HashIterator") ∈ lw_all := lw_g (lw_at lw_m1 31 rfl) rfl
theorem q561 : (Jvm.Cond.fieldLink "java/util/HashMap$HashIterator" (22 : Nat) "java/util/HashMap" "table" "[Ljava/util/HashMap$Node;") ∈ lw_all := lw_g (lw_at lw_m2 202 rfl) rfl
theorem q563 : (Jvm.Cond.fieldLink "java/util/HashMap$HashIterator" (36 : Nat) "java/util/HashMap" "size" "I") ∈ lw_all := lw_g (lw_at lw_m2 204 rfl) rfl
theorem q566 : (Jvm.Cond.fieldLink "java/util/HashMap$HashIterator" (13 : Nat) "java/util/HashMap" "modCount" "I") ∈ lw_all := lw_g (lw_at lw_m2 207 rfl) rfl
theorem q972 : (Jvm.Cond.instanceMethod ({ cls := "java/util/HashMap$HashIterator", name := "<init>", desc := "(Ljava/util/HashMap;)V" } : Jvm.MethodName)) ∈ lw_all := lw_g (lw_at lw_m4 133 rfl) rfl
theorem q973 : (Jvm.Cond.code ({ cls := "java/util/HashMap$HashIterator", name := "<init>", desc := "(Ljava/util/HashMap;)V" } : Jvm.MethodName) prog_59_method_1_code (3 : Nat) (Option.none : Option Jvm.ClassFile.FieldType)) ∈ lw_all := lw_g (lw_at lw_m4 134 rfl) rfl
theorem q974 : (Jvm.Cond.methodLink "java/util/HashMap$HashIterator" (7 : Nat) ({ cls := "java/lang/Object", name := "<init>", desc := "()V" } : Jvm.MethodName)) ∈ lw_all := lw_g (lw_at lw_m4 135 rfl) rfl
theorem q975 : (Jvm.Cond.fieldLink "java/util/HashMap$HashIterator" (26 : Nat) "java/util/HashMap$HashIterator" "next" "Ljava/util/HashMap$Node;") ∈ lw_all := lw_g (lw_at lw_m4 136 rfl) rfl
theorem q976 : (Jvm.Cond.fieldLink "java/util/HashMap$HashIterator" (30 : Nat) "java/util/HashMap$HashIterator" "current" "Ljava/util/HashMap$Node;") ∈ lw_all := lw_g (lw_at lw_m4 137 rfl) rfl
theorem q977 : (Jvm.Cond.fieldLink "java/util/HashMap$HashIterator" (19 : Nat) "java/util/HashMap$HashIterator" "expectedModCount" "I") ∈ lw_all := lw_g (lw_at lw_m4 138 rfl) rfl
theorem q978 : (Jvm.Cond.fieldLink "java/util/HashMap$HashIterator" (33 : Nat) "java/util/HashMap$HashIterator" "index" "I") ∈ lw_all := lw_g (lw_at lw_m4 139 rfl) rfl
theorem q979 : (Jvm.Cond.fieldLink "java/util/HashMap$HashIterator" (1 : Nat) "java/util/HashMap$HashIterator" "this$0" "Ljava/util/HashMap;") ∈ lw_all := lw_g (lw_at lw_m4 140 rfl) rfl
theorem q981 : (Jvm.Cond.soleField "java/util/HashMap$HashIterator" "next") ∈ lw_all := lw_g (lw_at lw_m4 142 rfl) rfl
theorem q983 : (Jvm.Cond.soleField "java/util/HashMap$HashIterator" "current") ∈ lw_all := lw_g (lw_at lw_m4 144 rfl) rfl
theorem q985 : (Jvm.Cond.soleField "java/util/HashMap$HashIterator" "expectedModCount") ∈ lw_all := lw_g (lw_at lw_m4 146 rfl) rfl
theorem q987 : (Jvm.Cond.soleField "java/util/HashMap$HashIterator" "index") ∈ lw_all := lw_g (lw_at lw_m4 148 rfl) rfl
theorem q989 : (Jvm.Cond.soleField "java/util/HashMap$HashIterator" "this$0") ∈ lw_all := lw_g (lw_at lw_m4 150 rfl) rfl
theorem q1083 : (Jvm.Cond.instanceMethod ({ cls := "java/util/HashMap$HashIterator", name := "hasNext", desc := "()Z" } : Jvm.MethodName)) ∈ lw_all := lw_g (lw_at lw_m5 4 rfl) rfl
theorem q1084 : (Jvm.Cond.publicMethod ({ cls := "java/util/HashMap$HashIterator", name := "hasNext", desc := "()Z" } : Jvm.MethodName)) ∈ lw_tbl := lw_at lw_m5 5 rfl
theorem q1085 : (Jvm.Cond.code ({ cls := "java/util/HashMap$HashIterator", name := "hasNext", desc := "()Z" } : Jvm.MethodName) prog_59_method_2_code (1 : Nat) (Option.some Jvm.ClassFile.FieldType.boolean)) ∈ lw_all := lw_g (lw_at lw_m5 6 rfl) rfl
theorem q1122 : (Jvm.Cond.declares ({ cls := "java/util/HashMap$HashIterator", name := "nextNode", desc := "()Ljava/util/HashMap$Node;" } : Jvm.MethodName)) ∈ lw_tbl := lw_at lw_m5 43 rfl
theorem q1124 : (Jvm.Cond.instanceMethod ({ cls := "java/util/HashMap$HashIterator", name := "nextNode", desc := "()Ljava/util/HashMap$Node;" } : Jvm.MethodName)) ∈ lw_all := lw_g (lw_at lw_m5 45 rfl) rfl
theorem q1125 : (Jvm.Cond.code ({ cls := "java/util/HashMap$HashIterator", name := "nextNode", desc := "()Ljava/util/HashMap$Node;" } : Jvm.MethodName) prog_59_method_3_code (3 : Nat) (Option.some (Jvm.ClassFile.FieldType.object "java/util/HashMap$Node"))) ∈ lw_all := lw_g (lw_at lw_m5 46 rfl) rfl
theorem q2100 : (Jvm.Cond.fieldLink "java/util/HashMap$HashIterator" (45 : Nat) "java/util/HashMap$Node" "next" "Ljava/util/HashMap$Node;") ∈ lw_all := lw_g (lw_at lw_m9 61 rfl) rfl

/-! java/util/HashMap$KeyIterator -/
set_option maxRecDepth 100000
def RJ25 : String := "java/util/HashMap$KeyIterator"
def TJ25 : u_T := fun k => match k with
  | 0 => ("java/util/HashMap$HashIterator", "next", "Ljava/util/HashMap$Node;", false)
  | 1 => ("java/util/HashMap$HashIterator", "current", "Ljava/util/HashMap$Node;", false)
  | 2 => ("java/util/HashMap$HashIterator", "expectedModCount", "I", false)
  | 3 => ("java/util/HashMap$HashIterator", "index", "I", false)
  | _ => ("java/util/HashMap$HashIterator", "this$0", "Ljava/util/HashMap;", true)
def tyJ25 : Nat → FieldType := fun k => match k with
  | 0 => .object "java/util/HashMap$Node"
  | 1 => .object "java/util/HashMap$Node"
  | 2 => .int
  | 3 => .int
  | _ => .object "java/util/HashMap"
abbrev wsJ250 : List Cond := u_ws RJ25 TJ25 5
theorem nmJ25 : ∀ a, a < 5 → ∀ b, b < 5 → a ≠ b → (TJ25 a).2.1 ≠ (TJ25 b).2.1 := by decide +kernel
theorem tyJ25_ok : ∀ k, k < 5 → parseFieldDescriptor (TJ25 k).2.2.1 = some (tyJ25 k) := by decide +kernel
abbrev cJ25_init : ByteArray := prog_60_method_1_code
def yJ25_init : MethodName := ⟨RJ25, "<init>", "(Ljava/util/HashMap;)V"⟩
def dkwJ25_init_0 : List UInt8 := [42, 43, 183, 0, 1, 177]
abbrev dktJ25_init_0 : List UInt8 := dkwJ25_init_0 ++ []
theorem dksJ25_init_0 : cJ25_init.data.toList.drop 0 = dktJ25_init_0 := by decide +kernel
theorem dJ25_init_0 : decode cJ25_init 0 = .ok (.aload_n 0, 1) := dk_42 (dk_at dksJ25_init_0 0 rfl rfl)
theorem dJ25_init_1 : decode cJ25_init 1 = .ok (.aload_n 1, 1) := dk_43 (dk_at dksJ25_init_0 1 rfl rfl)
theorem dJ25_init_2 : decode cJ25_init 2 = .ok (.invokespecial 1, 3) := dk_183 0 1 (dk_at dksJ25_init_0 2 rfl rfl)
theorem dJ25_init_5 : decode cJ25_init 5 = .ok (.return_, 1) := dk_177 (dk_at dksJ25_init_0 5 rfl rfl)
abbrev cJ25_next : ByteArray := prog_60_method_2_code
def yJ25_next : MethodName := ⟨RJ25, "next", "()Ljava/lang/Object;"⟩
def dkwJ25_next_0 : List UInt8 := [42, 182, 0, 7, 180, 0, 13, 176]
abbrev dktJ25_next_0 : List UInt8 := dkwJ25_next_0 ++ []
theorem dksJ25_next_0 : cJ25_next.data.toList.drop 0 = dktJ25_next_0 := by decide +kernel
theorem dJ25_next_0 : decode cJ25_next 0 = .ok (.aload_n 0, 1) := dk_42 (dk_at dksJ25_next_0 0 rfl rfl)
theorem dJ25_next_1 : decode cJ25_next 1 = .ok (.invokevirtual 7, 3) := dk_182 0 7 (dk_at dksJ25_next_0 1 rfl rfl)
theorem dJ25_next_4 : decode cJ25_next 4 = .ok (.getfield 13, 3) := dk_180 0 13 (dk_at dksJ25_next_0 4 rfl rfl)
theorem dJ25_next_7 : decode cJ25_next 7 = .ok (.areturn, 1) := dk_176 (dk_at dksJ25_next_0 7 rfl rfl)
theorem q151 : (Jvm.Cond.initialized "java/util/HashMap$KeyIterator") ∈ lw_all := lw_g (lw_at lw_m1 32 rfl) rfl
theorem q872 : (Jvm.Cond.selects "java/util/HashMap$KeyIterator" ({ cls := "java/lang/Object", name := "getClass", desc := "()Ljava/lang/Class;" } : Jvm.MethodName) ({ cls := "java/lang/Object", name := "getClass", desc := "()Ljava/lang/Class;" } : Jvm.MethodName)) ∈ lw_all := lw_g (lw_at lw_m4 33 rfl) rfl
theorem q967 : (Jvm.Cond.instantiable "java/util/HashMap$KeyIterator" (5 : Nat)) ∈ lw_all := lw_g (lw_at lw_m4 128 rfl) rfl
theorem q969 : (Jvm.Cond.instanceMethod ({ cls := "java/util/HashMap$KeyIterator", name := "<init>", desc := "(Ljava/util/HashMap;)V" } : Jvm.MethodName)) ∈ lw_all := lw_g (lw_at lw_m4 130 rfl) rfl
theorem q970 : (Jvm.Cond.code ({ cls := "java/util/HashMap$KeyIterator", name := "<init>", desc := "(Ljava/util/HashMap;)V" } : Jvm.MethodName) prog_60_method_1_code (2 : Nat) (Option.none : Option Jvm.ClassFile.FieldType)) ∈ lw_all := lw_g (lw_at lw_m4 131 rfl) rfl
theorem q971 : (Jvm.Cond.methodLink "java/util/HashMap$KeyIterator" (1 : Nat) ({ cls := "java/util/HashMap$HashIterator", name := "<init>", desc := "(Ljava/util/HashMap;)V" } : Jvm.MethodName)) ∈ lw_all := lw_g (lw_at lw_m4 132 rfl) rfl
theorem q980 : (Jvm.Cond.lays "java/util/HashMap$KeyIterator" "java/util/HashMap$HashIterator" "next" "Ljava/util/HashMap$Node;") ∈ lw_all := lw_g (lw_at lw_m4 141 rfl) rfl
theorem q982 : (Jvm.Cond.lays "java/util/HashMap$KeyIterator" "java/util/HashMap$HashIterator" "current" "Ljava/util/HashMap$Node;") ∈ lw_all := lw_g (lw_at lw_m4 143 rfl) rfl
theorem q984 : (Jvm.Cond.lays "java/util/HashMap$KeyIterator" "java/util/HashMap$HashIterator" "expectedModCount" "I") ∈ lw_all := lw_g (lw_at lw_m4 145 rfl) rfl
theorem q986 : (Jvm.Cond.lays "java/util/HashMap$KeyIterator" "java/util/HashMap$HashIterator" "index" "I") ∈ lw_all := lw_g (lw_at lw_m4 147 rfl) rfl
theorem q988 : (Jvm.Cond.laysFinal "java/util/HashMap$KeyIterator" "java/util/HashMap$HashIterator" "this$0" "Ljava/util/HashMap;") ∈ lw_all := lw_g (lw_at lw_m4 149 rfl) rfl
theorem q990 : (Jvm.Cond.superclass "java/util/HashMap$KeyIterator" "java/util/HashMap$HashIterator") ∈ lw_all := lw_g (lw_at lw_m4 151 rfl) rfl
theorem q1080 : (Jvm.Cond.castable "java/util/HashMap$KeyIterator" "java/util/Iterator") ∈ lw_tbl := lw_at lw_m5 1 rfl
theorem q1081 : (Jvm.Cond.selects "java/util/HashMap$KeyIterator" ({ cls := "java/util/Iterator", name := "hasNext", desc := "()Z" } : Jvm.MethodName) ({ cls := "java/util/HashMap$HashIterator", name := "hasNext", desc := "()Z" } : Jvm.MethodName)) ∈ lw_all := lw_g (lw_at lw_m5 2 rfl) rfl
theorem q1082 : (Jvm.Cond.unhidden "java/util/HashMap$KeyIterator" "hasNext" "()Z") ∈ lw_tbl := lw_at lw_m5 3 rfl
theorem q1115 : (Jvm.Cond.selects "java/util/HashMap$KeyIterator" ({ cls := "java/util/Iterator", name := "next", desc := "()Ljava/lang/Object;" } : Jvm.MethodName) ({ cls := "java/util/HashMap$KeyIterator", name := "next", desc := "()Ljava/lang/Object;" } : Jvm.MethodName)) ∈ lw_all := lw_g (lw_at lw_m5 36 rfl) rfl
theorem q1116 : (Jvm.Cond.unhidden "java/util/HashMap$KeyIterator" "next" "()Ljava/lang/Object;") ∈ lw_tbl := lw_at lw_m5 37 rfl
theorem q1117 : (Jvm.Cond.instanceMethod ({ cls := "java/util/HashMap$KeyIterator", name := "next", desc := "()Ljava/lang/Object;" } : Jvm.MethodName)) ∈ lw_all := lw_g (lw_at lw_m5 38 rfl) rfl
theorem q1118 : (Jvm.Cond.publicMethod ({ cls := "java/util/HashMap$KeyIterator", name := "next", desc := "()Ljava/lang/Object;" } : Jvm.MethodName)) ∈ lw_tbl := lw_at lw_m5 39 rfl
theorem q1119 : (Jvm.Cond.code ({ cls := "java/util/HashMap$KeyIterator", name := "next", desc := "()Ljava/lang/Object;" } : Jvm.MethodName) prog_60_method_2_code (1 : Nat) (Option.some (Jvm.ClassFile.FieldType.object "java/lang/Object"))) ∈ lw_all := lw_g (lw_at lw_m5 40 rfl) rfl
theorem q1120 : (Jvm.Cond.methodLink "java/util/HashMap$KeyIterator" (7 : Nat) ({ cls := "java/util/HashMap$KeyIterator", name := "nextNode", desc := "()Ljava/util/HashMap$Node;" } : Jvm.MethodName)) ∈ lw_all := lw_g (lw_at lw_m5 41 rfl) rfl
theorem q1121 : (Jvm.Cond.sameMethod "java/util/HashMap$KeyIterator" "java/util/HashMap$HashIterator" "nextNode" "()Ljava/util/HashMap$Node;") ∈ lw_all := lw_g (lw_at lw_m5 42 rfl) rfl
theorem q1123 : (Jvm.Cond.selects "java/util/HashMap$KeyIterator" ({ cls := "java/util/HashMap$KeyIterator", name := "nextNode", desc := "()Ljava/util/HashMap$Node;" } : Jvm.MethodName) ({ cls := "java/util/HashMap$HashIterator", name := "nextNode", desc := "()Ljava/util/HashMap$Node;" } : Jvm.MethodName)) ∈ lw_all := lw_g (lw_at lw_m5 44 rfl) rfl
theorem q2093 : (Jvm.Cond.fieldLink "java/util/HashMap$KeyIterator" (13 : Nat) "java/util/HashMap$Node" "key" "Ljava/lang/Object;") ∈ lw_all := lw_g (lw_at lw_m9 54 rfl) rfl
theorem q3809 : (Jvm.Cond.castable "java/util/HashMap$KeyIterator" "java/lang/Object") ∈ lw_tbl := lw_at lw_m16 90 rfl
theorem in_J25 : ∀ w ∈ wsJ250, w ∈ lw_all := lw_in wsJ250 [980, 982, 984, 986, 988] (by decide +kernel) (by decide +kernel)

/-! java/util/AbstractSet -/
set_option maxRecDepth 100000
def RJ26 : String := "java/util/AbstractSet"
abbrev cJ26_init : ByteArray := prog_51_method_1_code
def yJ26_init : MethodName := ⟨RJ26, "<init>", "()V"⟩
theorem dJ26_init_0 : decode cJ26_init 0 = .ok (.aload_n 0, 1) := by decide +kernel
theorem dJ26_init_1 : decode cJ26_init 1 = .ok (.invokespecial 1, 3) := by decide +kernel
theorem dJ26_init_4 : decode cJ26_init 4 = .ok (.return_, 1) := by decide +kernel
theorem q152 : (Jvm.Cond.initialized "java/util/AbstractSet") ∈ lw_all := lw_g (lw_at lw_m1 33 rfl) rfl
theorem q949 : (Jvm.Cond.instanceMethod ({ cls := "java/util/AbstractSet", name := "<init>", desc := "()V" } : Jvm.MethodName)) ∈ lw_all := lw_g (lw_at lw_m4 110 rfl) rfl
theorem q950 : (Jvm.Cond.code ({ cls := "java/util/AbstractSet", name := "<init>", desc := "()V" } : Jvm.MethodName) prog_51_method_1_code (1 : Nat) (Option.none : Option Jvm.ClassFile.FieldType)) ∈ lw_all := lw_g (lw_at lw_m4 111 rfl) rfl
theorem q951 : (Jvm.Cond.methodLink "java/util/AbstractSet" (1 : Nat) ({ cls := "java/util/AbstractCollection", name := "<init>", desc := "()V" } : Jvm.MethodName)) ∈ lw_all := lw_g (lw_at lw_m4 112 rfl) rfl

/-! java/util/HashMap$KeySet -/
set_option maxRecDepth 100000
def RJ27 : String := "java/util/HashMap$KeySet"
def TJ27 : u_T := fun k => match k with
  | _ => ("java/util/HashMap$KeySet", "this$0", "Ljava/util/HashMap;", true)
def tyJ27 : Nat → FieldType := fun k => match k with
  | _ => .object "java/util/HashMap"
abbrev wsJ270 : List Cond := u_ws RJ27 TJ27 1
theorem nmJ27 : ∀ a, a < 1 → ∀ b, b < 1 → a ≠ b → (TJ27 a).2.1 ≠ (TJ27 b).2.1 := by decide +kernel
theorem tyJ27_ok : ∀ k, k < 1 → parseFieldDescriptor (TJ27 k).2.2.1 = some (tyJ27 k) := by decide +kernel
abbrev cJ27_init : ByteArray := prog_61_method_1_code
def yJ27_init : MethodName := ⟨RJ27, "<init>", "(Ljava/util/HashMap;)V"⟩
def dkwJ27_init_0 : List UInt8 := [42, 43, 181, 0, 1, 42, 183, 0, 7, 177]
abbrev dktJ27_init_0 : List UInt8 := dkwJ27_init_0 ++ []
theorem dksJ27_init_0 : cJ27_init.data.toList.drop 0 = dktJ27_init_0 := by decide +kernel
theorem dJ27_init_0 : decode cJ27_init 0 = .ok (.aload_n 0, 1) := dk_42 (dk_at dksJ27_init_0 0 rfl rfl)
theorem dJ27_init_1 : decode cJ27_init 1 = .ok (.aload_n 1, 1) := dk_43 (dk_at dksJ27_init_0 1 rfl rfl)
theorem dJ27_init_2 : decode cJ27_init 2 = .ok (.putfield 1, 3) := dk_181 0 1 (dk_at dksJ27_init_0 2 rfl rfl)
theorem dJ27_init_5 : decode cJ27_init 5 = .ok (.aload_n 0, 1) := dk_42 (dk_at dksJ27_init_0 5 rfl rfl)
theorem dJ27_init_6 : decode cJ27_init 6 = .ok (.invokespecial 7, 3) := dk_183 0 7 (dk_at dksJ27_init_0 6 rfl rfl)
theorem dJ27_init_9 : decode cJ27_init 9 = .ok (.return_, 1) := dk_177 (dk_at dksJ27_init_0 9 rfl rfl)
abbrev cJ27_iterator : ByteArray := prog_61_method_4_code
def yJ27_iterator : MethodName := ⟨RJ27, "iterator", "()Ljava/util/Iterator;"⟩
def dkwJ27_iterator_0 : List UInt8 := [187, 0, 22, 89, 42, 180, 0, 1, 183, 0, 24, 176]
abbrev dktJ27_iterator_0 : List UInt8 := dkwJ27_iterator_0 ++ []
theorem dksJ27_iterator_0 : cJ27_iterator.data.toList.drop 0 = dktJ27_iterator_0 := by decide +kernel
theorem dJ27_iterator_0 : decode cJ27_iterator 0 = .ok (.new 22, 3) := dk_187 0 22 (dk_at dksJ27_iterator_0 0 rfl rfl)
theorem dJ27_iterator_3 : decode cJ27_iterator 3 = .ok (.dup, 1) := dk_89 (dk_at dksJ27_iterator_0 3 rfl rfl)
theorem dJ27_iterator_4 : decode cJ27_iterator 4 = .ok (.aload_n 0, 1) := dk_42 (dk_at dksJ27_iterator_0 4 rfl rfl)
theorem dJ27_iterator_5 : decode cJ27_iterator 5 = .ok (.getfield 1, 3) := dk_180 0 1 (dk_at dksJ27_iterator_0 5 rfl rfl)
theorem dJ27_iterator_8 : decode cJ27_iterator 8 = .ok (.invokespecial 24, 3) := dk_183 0 24 (dk_at dksJ27_iterator_0 8 rfl rfl)
theorem dJ27_iterator_11 : decode cJ27_iterator 11 = .ok (.areturn, 1) := dk_176 (dk_at dksJ27_iterator_0 11 rfl rfl)
abbrev cJ27_size : ByteArray := prog_61_method_2_code
def yJ27_size : MethodName := ⟨RJ27, "size", "()I"⟩
def dkwJ27_size_0 : List UInt8 := [42, 180, 0, 1, 180, 0, 13, 172]
abbrev dktJ27_size_0 : List UInt8 := dkwJ27_size_0 ++ []
theorem dksJ27_size_0 : cJ27_size.data.toList.drop 0 = dktJ27_size_0 := by decide +kernel
theorem dJ27_size_0 : decode cJ27_size 0 = .ok (.aload_n 0, 1) := dk_42 (dk_at dksJ27_size_0 0 rfl rfl)
theorem dJ27_size_1 : decode cJ27_size 1 = .ok (.getfield 1, 3) := dk_180 0 1 (dk_at dksJ27_size_0 1 rfl rfl)
theorem dJ27_size_4 : decode cJ27_size 4 = .ok (.getfield 13, 3) := dk_180 0 13 (dk_at dksJ27_size_0 4 rfl rfl)
theorem dJ27_size_7 : decode cJ27_size 7 = .ok (.ireturn, 1) := dk_172 (dk_at dksJ27_size_0 7 rfl rfl)
abbrev cJ27_toArray : ByteArray := prog_61_method_8_code
def yJ27_toArray : MethodName := ⟨RJ27, "toArray", "()[Ljava/lang/Object;"⟩
def dkwJ27_toArray_0 : List UInt8 := [42, 180, 0, 1, 42, 180, 0, 1, 180, 0, 13, 189, 0, 44, 182, 0, 46, 176]
abbrev dktJ27_toArray_0 : List UInt8 := dkwJ27_toArray_0 ++ []
theorem dksJ27_toArray_0 : cJ27_toArray.data.toList.drop 0 = dktJ27_toArray_0 := by decide +kernel
theorem dJ27_toArray_0 : decode cJ27_toArray 0 = .ok (.aload_n 0, 1) := dk_42 (dk_at dksJ27_toArray_0 0 rfl rfl)
theorem dJ27_toArray_1 : decode cJ27_toArray 1 = .ok (.getfield 1, 3) := dk_180 0 1 (dk_at dksJ27_toArray_0 1 rfl rfl)
theorem dJ27_toArray_4 : decode cJ27_toArray 4 = .ok (.aload_n 0, 1) := dk_42 (dk_at dksJ27_toArray_0 4 rfl rfl)
theorem dJ27_toArray_5 : decode cJ27_toArray 5 = .ok (.getfield 1, 3) := dk_180 0 1 (dk_at dksJ27_toArray_0 5 rfl rfl)
theorem dJ27_toArray_8 : decode cJ27_toArray 8 = .ok (.getfield 13, 3) := dk_180 0 13 (dk_at dksJ27_toArray_0 8 rfl rfl)
theorem dJ27_toArray_11 : decode cJ27_toArray 11 = .ok (.anewarray 44, 3) := dk_189 0 44 (dk_at dksJ27_toArray_0 11 rfl rfl)
theorem dJ27_toArray_14 : decode cJ27_toArray 14 = .ok (.invokevirtual 46, 3) := dk_182 0 46 (dk_at dksJ27_toArray_0 14 rfl rfl)
theorem dJ27_toArray_17 : decode cJ27_toArray 17 = .ok (.areturn, 1) := dk_176 (dk_at dksJ27_toArray_0 17 rfl rfl)
theorem q153 : (Jvm.Cond.initialized "java/util/HashMap$KeySet") ∈ lw_all := lw_g (lw_at lw_m1 34 rfl) rfl
theorem q564 : (Jvm.Cond.fieldLink "java/util/HashMap$KeySet" (13 : Nat) "java/util/HashMap" "size" "I") ∈ lw_all := lw_g (lw_at lw_m2 205 rfl) rfl
theorem q873 : (Jvm.Cond.selects "java/util/HashMap$KeySet" ({ cls := "java/lang/Object", name := "getClass", desc := "()Ljava/lang/Class;" } : Jvm.MethodName) ({ cls := "java/lang/Object", name := "getClass", desc := "()Ljava/lang/Class;" } : Jvm.MethodName)) ∈ lw_all := lw_g (lw_at lw_m4 34 rfl) rfl
theorem q944 : (Jvm.Cond.instantiable "java/util/HashMap$KeySet" (1 : Nat)) ∈ lw_all := lw_g (lw_at lw_m4 105 rfl) rfl
theorem q946 : (Jvm.Cond.instanceMethod ({ cls := "java/util/HashMap$KeySet", name := "<init>", desc := "(Ljava/util/HashMap;)V" } : Jvm.MethodName)) ∈ lw_all := lw_g (lw_at lw_m4 107 rfl) rfl
theorem q947 : (Jvm.Cond.code ({ cls := "java/util/HashMap$KeySet", name := "<init>", desc := "(Ljava/util/HashMap;)V" } : Jvm.MethodName) prog_61_method_1_code (2 : Nat) (Option.none : Option Jvm.ClassFile.FieldType)) ∈ lw_all := lw_g (lw_at lw_m4 108 rfl) rfl
theorem q948 : (Jvm.Cond.methodLink "java/util/HashMap$KeySet" (7 : Nat) ({ cls := "java/util/AbstractSet", name := "<init>", desc := "()V" } : Jvm.MethodName)) ∈ lw_all := lw_g (lw_at lw_m4 109 rfl) rfl
theorem q952 : (Jvm.Cond.fieldLink "java/util/HashMap$KeySet" (1 : Nat) "java/util/HashMap$KeySet" "this$0" "Ljava/util/HashMap;") ∈ lw_all := lw_g (lw_at lw_m4 113 rfl) rfl
theorem q953 : (Jvm.Cond.laysFinal "java/util/HashMap$KeySet" "java/util/HashMap$KeySet" "this$0" "Ljava/util/HashMap;") ∈ lw_all := lw_g (lw_at lw_m4 114 rfl) rfl
theorem q954 : (Jvm.Cond.soleField "java/util/HashMap$KeySet" "this$0") ∈ lw_all := lw_g (lw_at lw_m4 115 rfl) rfl
theorem q955 : (Jvm.Cond.superclass "java/util/HashMap$KeySet" "java/util/AbstractSet") ∈ lw_all := lw_g (lw_at lw_m4 116 rfl) rfl
theorem q960 : (Jvm.Cond.castable "java/util/HashMap$KeySet" "java/util/Set") ∈ lw_tbl := lw_at lw_m4 121 rfl
theorem q961 : (Jvm.Cond.selects "java/util/HashMap$KeySet" ({ cls := "java/util/Set", name := "iterator", desc := "()Ljava/util/Iterator;" } : Jvm.MethodName) ({ cls := "java/util/HashMap$KeySet", name := "iterator", desc := "()Ljava/util/Iterator;" } : Jvm.MethodName)) ∈ lw_all := lw_g (lw_at lw_m4 122 rfl) rfl
theorem q962 : (Jvm.Cond.unhidden "java/util/HashMap$KeySet" "iterator" "()Ljava/util/Iterator;") ∈ lw_tbl := lw_at lw_m4 123 rfl
theorem q963 : (Jvm.Cond.instanceMethod ({ cls := "java/util/HashMap$KeySet", name := "iterator", desc := "()Ljava/util/Iterator;" } : Jvm.MethodName)) ∈ lw_all := lw_g (lw_at lw_m4 124 rfl) rfl
theorem q964 : (Jvm.Cond.publicMethod ({ cls := "java/util/HashMap$KeySet", name := "iterator", desc := "()Ljava/util/Iterator;" } : Jvm.MethodName)) ∈ lw_tbl := lw_at lw_m4 125 rfl
theorem q965 : (Jvm.Cond.code ({ cls := "java/util/HashMap$KeySet", name := "iterator", desc := "()Ljava/util/Iterator;" } : Jvm.MethodName) prog_61_method_4_code (1 : Nat) (Option.some (Jvm.ClassFile.FieldType.object "java/util/Iterator"))) ∈ lw_all := lw_g (lw_at lw_m4 126 rfl) rfl
theorem q966 : (Jvm.Cond.classLink "java/util/HashMap$KeySet" (22 : Nat) "java/util/HashMap$KeyIterator") ∈ lw_all := lw_g (lw_at lw_m4 127 rfl) rfl
theorem q968 : (Jvm.Cond.methodLink "java/util/HashMap$KeySet" (24 : Nat) ({ cls := "java/util/HashMap$KeyIterator", name := "<init>", desc := "(Ljava/util/HashMap;)V" } : Jvm.MethodName)) ∈ lw_all := lw_g (lw_at lw_m4 129 rfl) rfl
theorem q1792 : (Jvm.Cond.selects "java/util/HashMap$KeySet" ({ cls := "java/util/AbstractCollection", name := "size", desc := "()I" } : Jvm.MethodName) ({ cls := "java/util/HashMap$KeySet", name := "size", desc := "()I" } : Jvm.MethodName)) ∈ lw_all := lw_g (lw_at lw_m7 233 rfl) rfl
theorem q1793 : (Jvm.Cond.instanceMethod ({ cls := "java/util/HashMap$KeySet", name := "size", desc := "()I" } : Jvm.MethodName)) ∈ lw_all := lw_g (lw_at lw_m7 234 rfl) rfl
theorem q1794 : (Jvm.Cond.code ({ cls := "java/util/HashMap$KeySet", name := "size", desc := "()I" } : Jvm.MethodName) prog_61_method_2_code (1 : Nat) (Option.some Jvm.ClassFile.FieldType.int)) ∈ lw_all := lw_g (lw_at lw_m7 235 rfl) rfl
theorem q1908 : (Jvm.Cond.castable "java/util/HashMap$KeySet" "java/util/Collection") ∈ lw_tbl := lw_at lw_m8 109 rfl
theorem q1909 : (Jvm.Cond.selects "java/util/HashMap$KeySet" ({ cls := "java/util/Collection", name := "toArray", desc := "()[Ljava/lang/Object;" } : Jvm.MethodName) ({ cls := "java/util/HashMap$KeySet", name := "toArray", desc := "()[Ljava/lang/Object;" } : Jvm.MethodName)) ∈ lw_all := lw_g (lw_at lw_m8 110 rfl) rfl
theorem q1910 : (Jvm.Cond.unhidden "java/util/HashMap$KeySet" "toArray" "()[Ljava/lang/Object;") ∈ lw_tbl := lw_at lw_m8 111 rfl
theorem q1911 : (Jvm.Cond.instanceMethod ({ cls := "java/util/HashMap$KeySet", name := "toArray", desc := "()[Ljava/lang/Object;" } : Jvm.MethodName)) ∈ lw_all := lw_g (lw_at lw_m8 112 rfl) rfl
theorem q1912 : (Jvm.Cond.publicMethod ({ cls := "java/util/HashMap$KeySet", name := "toArray", desc := "()[Ljava/lang/Object;" } : Jvm.MethodName)) ∈ lw_tbl := lw_at lw_m8 113 rfl
theorem q1913 : (Jvm.Cond.code ({ cls := "java/util/HashMap$KeySet", name := "toArray", desc := "()[Ljava/lang/Object;" } : Jvm.MethodName) prog_61_method_8_code (1 : Nat) (Option.some (Jvm.ClassFile.FieldType.array (Jvm.ClassFile.FieldType.object "java/lang/Object")))) ∈ lw_all := lw_g (lw_at lw_m8 114 rfl) rfl
theorem q1914 : (Jvm.Cond.classLink "java/util/HashMap$KeySet" (44 : Nat) "java/lang/Object") ∈ lw_all := lw_g (lw_at lw_m8 115 rfl) rfl
theorem q1915 : (Jvm.Cond.methodLink "java/util/HashMap$KeySet" (46 : Nat) ({ cls := "java/util/HashMap", name := "keysToArray", desc := "([Ljava/lang/Object;)[Ljava/lang/Object;" } : Jvm.MethodName)) ∈ lw_all := lw_g (lw_at lw_m8 116 rfl) rfl
theorem q1944 : (Jvm.Cond.selects "java/util/HashMap$KeySet" ({ cls := "java/util/AbstractCollection", name := "iterator", desc := "()Ljava/util/Iterator;" } : Jvm.MethodName) ({ cls := "java/util/HashMap$KeySet", name := "iterator", desc := "()Ljava/util/Iterator;" } : Jvm.MethodName)) ∈ lw_all := lw_g (lw_at lw_m8 145 rfl) rfl
theorem q2036 : (Jvm.Cond.selects "java/util/HashMap$KeySet" ({ cls := "java/util/Collection", name := "iterator", desc := "()Ljava/util/Iterator;" } : Jvm.MethodName) ({ cls := "java/util/HashMap$KeySet", name := "iterator", desc := "()Ljava/util/Iterator;" } : Jvm.MethodName)) ∈ lw_all := lw_g (lw_at lw_m8 237 rfl) rfl
theorem q2047 : (Jvm.Cond.selects "java/util/HashMap$KeySet" ({ cls := "java/util/AbstractCollection", name := "add", desc := "(Ljava/lang/Object;)Z" } : Jvm.MethodName) ({ cls := "java/util/AbstractCollection", name := "add", desc := "(Ljava/lang/Object;)Z" } : Jvm.MethodName)) ∈ lw_all := lw_g (lw_at lw_m9 8 rfl) rfl
theorem q3808 : (Jvm.Cond.castable "java/util/HashMap$KeySet" "java/lang/Object") ∈ lw_tbl := lw_at lw_m16 89 rfl
theorem in_J27 : ∀ w ∈ wsJ270, w ∈ lw_all := lw_in wsJ270 [953] (by decide +kernel) (by decide +kernel)

/-! java/util/Objects -/
set_option maxRecDepth 100000
def RJ32 : String := "java/util/Objects"
abbrev cJ32_checkIndex : ByteArray := prog_72_method_17_code
def yJ32_checkIndex : MethodName := ⟨RJ32, "checkIndex", "(II)I"⟩
def dkwJ32_checkIndex_0 : List UInt8 := [26, 27, 1, 184, 0, 105, 172]
abbrev dktJ32_checkIndex_0 : List UInt8 := dkwJ32_checkIndex_0 ++ []
theorem dksJ32_checkIndex_0 : cJ32_checkIndex.data.toList.drop 0 = dktJ32_checkIndex_0 := by decide +kernel
theorem dJ32_checkIndex_0 : decode cJ32_checkIndex 0 = .ok (.iload_n 0, 1) := dk_26 (dk_at dksJ32_checkIndex_0 0 rfl rfl)
theorem dJ32_checkIndex_1 : decode cJ32_checkIndex 1 = .ok (.iload_n 1, 1) := dk_27 (dk_at dksJ32_checkIndex_0 1 rfl rfl)
theorem dJ32_checkIndex_2 : decode cJ32_checkIndex 2 = .ok (.aconst_null, 1) := dk_1 (dk_at dksJ32_checkIndex_0 2 rfl rfl)
theorem dJ32_checkIndex_3 : decode cJ32_checkIndex 3 = .ok (.invokestatic 105, 3) := dk_184 0 105 (dk_at dksJ32_checkIndex_0 3 rfl rfl)
theorem dJ32_checkIndex_6 : decode cJ32_checkIndex 6 = .ok (.ireturn, 1) := dk_172 (dk_at dksJ32_checkIndex_0 6 rfl rfl)
abbrev cJ32_requireNonNull : ByteArray := prog_72_method_10_code
def yJ32_requireNonNull : MethodName := ⟨RJ32, "requireNonNull", "(Ljava/lang/Object;)Ljava/lang/Object;"⟩
def dkwJ32_requireNonNull_0 : List UInt8 := [42, 199, 0, 11, 187, 0, 84, 89, 183, 0, 86, 191, 42, 176]
abbrev dktJ32_requireNonNull_0 : List UInt8 := dkwJ32_requireNonNull_0 ++ []
theorem dksJ32_requireNonNull_0 : cJ32_requireNonNull.data.toList.drop 0 = dktJ32_requireNonNull_0 := by decide +kernel
theorem dJ32_requireNonNull_0 : decode cJ32_requireNonNull 0 = .ok (.aload_n 0, 1) := dk_42 (dk_at dksJ32_requireNonNull_0 0 rfl rfl)
theorem dJ32_requireNonNull_1 : decode cJ32_requireNonNull 1 = .ok (.ifnonnull 11, 3) := dk_199 0 11 (dk_at dksJ32_requireNonNull_0 1 rfl rfl)
theorem dJ32_requireNonNull_4 : decode cJ32_requireNonNull 4 = .ok (.new 84, 3) := dk_187 0 84 (dk_at dksJ32_requireNonNull_0 4 rfl rfl)
theorem dJ32_requireNonNull_7 : decode cJ32_requireNonNull 7 = .ok (.dup, 1) := dk_89 (dk_at dksJ32_requireNonNull_0 7 rfl rfl)
theorem dJ32_requireNonNull_8 : decode cJ32_requireNonNull 8 = .ok (.invokespecial 86, 3) := dk_183 0 86 (dk_at dksJ32_requireNonNull_0 8 rfl rfl)
theorem dJ32_requireNonNull_11 : decode cJ32_requireNonNull 11 = .ok (.athrow, 1) := dk_191 (dk_at dksJ32_requireNonNull_0 11 rfl rfl)
theorem dJ32_requireNonNull_12 : decode cJ32_requireNonNull 12 = .ok (.aload_n 0, 1) := dk_42 (dk_at dksJ32_requireNonNull_0 12 rfl rfl)
theorem dJ32_requireNonNull_13 : decode cJ32_requireNonNull 13 = .ok (.areturn, 1) := dk_176 (dk_at dksJ32_requireNonNull_0 13 rfl rfl)
theorem q158 : (Jvm.Cond.initialized "java/util/Objects") ∈ lw_all := lw_g (lw_at lw_m1 39 rfl) rfl
theorem q685 : (Jvm.Cond.static ({ cls := "java/util/Objects", name := "checkIndex", desc := "(II)I" } : Jvm.MethodName)) ∈ lw_all := lw_g (lw_at lw_m3 86 rfl) rfl
theorem q686 : (Jvm.Cond.code ({ cls := "java/util/Objects", name := "checkIndex", desc := "(II)I" } : Jvm.MethodName) prog_72_method_17_code (2 : Nat) (Option.some Jvm.ClassFile.FieldType.int)) ∈ lw_all := lw_g (lw_at lw_m3 87 rfl) rfl
theorem q687 : (Jvm.Cond.methodLink "java/util/Objects" (105 : Nat) ({ cls := "jdk/internal/util/Preconditions", name := "checkIndex", desc := "(IILjava/util/function/BiFunction;)I" } : Jvm.MethodName)) ∈ lw_all := lw_g (lw_at lw_m3 88 rfl) rfl
theorem q2259 : (Jvm.Cond.static ({ cls := "java/util/Objects", name := "requireNonNull", desc := "(Ljava/lang/Object;)Ljava/lang/Object;" } : Jvm.MethodName)) ∈ lw_all := lw_g (lw_at lw_m9 220 rfl) rfl
theorem q2260 : (Jvm.Cond.code ({ cls := "java/util/Objects", name := "requireNonNull", desc := "(Ljava/lang/Object;)Ljava/lang/Object;" } : Jvm.MethodName) prog_72_method_10_code (1 : Nat) (Option.some (Jvm.ClassFile.FieldType.object "java/lang/Object"))) ∈ lw_all := lw_g (lw_at lw_m9 221 rfl) rfl

/-! java/util/HashSet -/
set_option maxRecDepth 100000
def RJ33 : String := "java/util/HashSet"
def TJ33 : u_T := fun k => match k with
  | _ => ("java/util/HashSet", "map", "Ljava/util/HashMap;", false)
def tyJ33 : Nat → FieldType := fun k => match k with
  | _ => .object "java/util/HashMap"
abbrev wsJ330 : List Cond := u_ws RJ33 TJ33 1
theorem nmJ33 : ∀ a, a < 1 → ∀ b, b < 1 → a ≠ b → (TJ33 a).2.1 ≠ (TJ33 b).2.1 := by decide +kernel
theorem tyJ33_ok : ∀ k, k < 1 → parseFieldDescriptor (TJ33 k).2.2.1 = some (tyJ33 k) := by decide +kernel
abbrev cJ33_iterator : ByteArray := prog_64_method_6_code
def yJ33_iterator : MethodName := ⟨RJ33, "iterator", "()Ljava/util/Iterator;"⟩
def dkwJ33_iterator_0 : List UInt8 := [42, 180, 0, 10, 182, 0, 45, 185, 0, 49, 1, 0, 176]
abbrev dktJ33_iterator_0 : List UInt8 := dkwJ33_iterator_0 ++ []
theorem dksJ33_iterator_0 : cJ33_iterator.data.toList.drop 0 = dktJ33_iterator_0 := by decide +kernel
theorem dJ33_iterator_0 : decode cJ33_iterator 0 = .ok (.aload_n 0, 1) := dk_42 (dk_at dksJ33_iterator_0 0 rfl rfl)
theorem dJ33_iterator_1 : decode cJ33_iterator 1 = .ok (.getfield 10, 3) := dk_180 0 10 (dk_at dksJ33_iterator_0 1 rfl rfl)
theorem dJ33_iterator_4 : decode cJ33_iterator 4 = .ok (.invokevirtual 45, 3) := dk_182 0 45 (dk_at dksJ33_iterator_0 4 rfl rfl)
theorem dJ33_iterator_7 : decode cJ33_iterator 7 = .ok (.invokeinterface 49 1, 5) := by decide +kernel
theorem dJ33_iterator_12 : decode cJ33_iterator 12 = .ok (.areturn, 1) := dk_176 (dk_at dksJ33_iterator_0 12 rfl rfl)
abbrev cJ33_contains : ByteArray := prog_64_method_9_code
def yJ33_contains : MethodName := ⟨RJ33, "contains", "(Ljava/lang/Object;)Z"⟩
def dkwJ33_contains_0 : List UInt8 := [42, 180, 0, 10, 43, 182, 0, 60, 172]
abbrev dktJ33_contains_0 : List UInt8 := dkwJ33_contains_0 ++ []
theorem dksJ33_contains_0 : cJ33_contains.data.toList.drop 0 = dktJ33_contains_0 := by decide +kernel
theorem dJ33_contains_0 : decode cJ33_contains 0 = .ok (.aload_n 0, 1) := dk_42 (dk_at dksJ33_contains_0 0 rfl rfl)
theorem dJ33_contains_1 : decode cJ33_contains 1 = .ok (.getfield 10, 3) := dk_180 0 10 (dk_at dksJ33_contains_0 1 rfl rfl)
theorem dJ33_contains_4 : decode cJ33_contains 4 = .ok (.aload_n 1, 1) := dk_43 (dk_at dksJ33_contains_0 4 rfl rfl)
theorem dJ33_contains_5 : decode cJ33_contains 5 = .ok (.invokevirtual 60, 3) := dk_182 0 60 (dk_at dksJ33_contains_0 5 rfl rfl)
theorem dJ33_contains_8 : decode cJ33_contains 8 = .ok (.ireturn, 1) := dk_172 (dk_at dksJ33_contains_0 8 rfl rfl)
abbrev cJ33_size : ByteArray := prog_64_method_7_code
def yJ33_size : MethodName := ⟨RJ33, "size", "()I"⟩
def dkwJ33_size_0 : List UInt8 := [42, 180, 0, 10, 182, 0, 55, 172]
abbrev dktJ33_size_0 : List UInt8 := dkwJ33_size_0 ++ []
theorem dksJ33_size_0 : cJ33_size.data.toList.drop 0 = dktJ33_size_0 := by decide +kernel
theorem dJ33_size_0 : decode cJ33_size 0 = .ok (.aload_n 0, 1) := dk_42 (dk_at dksJ33_size_0 0 rfl rfl)
theorem dJ33_size_1 : decode cJ33_size 1 = .ok (.getfield 10, 3) := dk_180 0 10 (dk_at dksJ33_size_0 1 rfl rfl)
theorem dJ33_size_4 : decode cJ33_size 4 = .ok (.invokevirtual 55, 3) := dk_182 0 55 (dk_at dksJ33_size_0 4 rfl rfl)
theorem dJ33_size_7 : decode cJ33_size 7 = .ok (.ireturn, 1) := dk_172 (dk_at dksJ33_size_0 7 rfl rfl)
abbrev cJ33_toArray : ByteArray := prog_64_method_17_code
def yJ33_toArray : MethodName := ⟨RJ33, "toArray", "()[Ljava/lang/Object;"⟩
def dkwJ33_toArray_0 : List UInt8 := [42, 180, 0, 10, 42, 180, 0, 10, 182, 0, 55, 189, 0, 80, 182, 0, 209, 176]
abbrev dktJ33_toArray_0 : List UInt8 := dkwJ33_toArray_0 ++ []
theorem dksJ33_toArray_0 : cJ33_toArray.data.toList.drop 0 = dktJ33_toArray_0 := by decide +kernel
theorem dJ33_toArray_0 : decode cJ33_toArray 0 = .ok (.aload_n 0, 1) := dk_42 (dk_at dksJ33_toArray_0 0 rfl rfl)
theorem dJ33_toArray_1 : decode cJ33_toArray 1 = .ok (.getfield 10, 3) := dk_180 0 10 (dk_at dksJ33_toArray_0 1 rfl rfl)
theorem dJ33_toArray_4 : decode cJ33_toArray 4 = .ok (.aload_n 0, 1) := dk_42 (dk_at dksJ33_toArray_0 4 rfl rfl)
theorem dJ33_toArray_5 : decode cJ33_toArray 5 = .ok (.getfield 10, 3) := dk_180 0 10 (dk_at dksJ33_toArray_0 5 rfl rfl)
theorem dJ33_toArray_8 : decode cJ33_toArray 8 = .ok (.invokevirtual 55, 3) := dk_182 0 55 (dk_at dksJ33_toArray_0 8 rfl rfl)
theorem dJ33_toArray_11 : decode cJ33_toArray 11 = .ok (.anewarray 80, 3) := dk_189 0 80 (dk_at dksJ33_toArray_0 11 rfl rfl)
theorem dJ33_toArray_14 : decode cJ33_toArray 14 = .ok (.invokevirtual 209, 3) := dk_182 0 209 (dk_at dksJ33_toArray_0 14 rfl rfl)
theorem dJ33_toArray_17 : decode cJ33_toArray 17 = .ok (.areturn, 1) := dk_176 (dk_at dksJ33_toArray_0 17 rfl rfl)
abbrev cJ33_init : ByteArray := prog_64_method_1_code
def yJ33_init : MethodName := ⟨RJ33, "<init>", "()V"⟩
def dkwJ33_init_0 : List UInt8 := [42, 183, 0, 1, 42, 187, 0, 7, 89, 183, 0, 9, 181, 0, 10, 177]
abbrev dktJ33_init_0 : List UInt8 := dkwJ33_init_0 ++ []
theorem dksJ33_init_0 : cJ33_init.data.toList.drop 0 = dktJ33_init_0 := by decide +kernel
theorem dJ33_init_0 : decode cJ33_init 0 = .ok (.aload_n 0, 1) := dk_42 (dk_at dksJ33_init_0 0 rfl rfl)
theorem dJ33_init_1 : decode cJ33_init 1 = .ok (.invokespecial 1, 3) := dk_183 0 1 (dk_at dksJ33_init_0 1 rfl rfl)
theorem dJ33_init_4 : decode cJ33_init 4 = .ok (.aload_n 0, 1) := dk_42 (dk_at dksJ33_init_0 4 rfl rfl)
theorem dJ33_init_5 : decode cJ33_init 5 = .ok (.new 7, 3) := dk_187 0 7 (dk_at dksJ33_init_0 5 rfl rfl)
theorem dJ33_init_8 : decode cJ33_init 8 = .ok (.dup, 1) := dk_89 (dk_at dksJ33_init_0 8 rfl rfl)
theorem dJ33_init_9 : decode cJ33_init 9 = .ok (.invokespecial 9, 3) := dk_183 0 9 (dk_at dksJ33_init_0 9 rfl rfl)
theorem dJ33_init_12 : decode cJ33_init 12 = .ok (.putfield 10, 3) := dk_181 0 10 (dk_at dksJ33_init_0 12 rfl rfl)
theorem dJ33_init_15 : decode cJ33_init 15 = .ok (.return_, 1) := dk_177 (dk_at dksJ33_init_0 15 rfl rfl)
abbrev cJ33_add : ByteArray := prog_64_method_10_code
def yJ33_add : MethodName := ⟨RJ33, "add", "(Ljava/lang/Object;)Z"⟩
def dkwJ33_add_0 : List UInt8 := [42, 180, 0, 10, 43, 178, 0, 64, 182, 0, 68, 199, 0, 7, 4, 167, 0, 4, 3, 172]
abbrev dktJ33_add_0 : List UInt8 := dkwJ33_add_0 ++ []
theorem dksJ33_add_0 : cJ33_add.data.toList.drop 0 = dktJ33_add_0 := by decide +kernel
theorem dJ33_add_0 : decode cJ33_add 0 = .ok (.aload_n 0, 1) := dk_42 (dk_at dksJ33_add_0 0 rfl rfl)
theorem dJ33_add_1 : decode cJ33_add 1 = .ok (.getfield 10, 3) := dk_180 0 10 (dk_at dksJ33_add_0 1 rfl rfl)
theorem dJ33_add_4 : decode cJ33_add 4 = .ok (.aload_n 1, 1) := dk_43 (dk_at dksJ33_add_0 4 rfl rfl)
theorem dJ33_add_5 : decode cJ33_add 5 = .ok (.getstatic 64, 3) := dk_178 0 64 (dk_at dksJ33_add_0 5 rfl rfl)
theorem dJ33_add_8 : decode cJ33_add 8 = .ok (.invokevirtual 68, 3) := dk_182 0 68 (dk_at dksJ33_add_0 8 rfl rfl)
theorem dJ33_add_11 : decode cJ33_add 11 = .ok (.ifnonnull 7, 3) := dk_199 0 7 (dk_at dksJ33_add_0 11 rfl rfl)
theorem dJ33_add_14 : decode cJ33_add 14 = .ok (.iconst 1, 1) := dk_4 (dk_at dksJ33_add_0 14 rfl rfl)
theorem dJ33_add_15 : decode cJ33_add 15 = .ok (.goto 4, 3) := dk_167 0 4 (dk_at dksJ33_add_0 15 rfl rfl)
theorem dJ33_add_18 : decode cJ33_add 18 = .ok (.iconst 0, 1) := dk_3 (dk_at dksJ33_add_0 18 rfl rfl)
theorem dJ33_add_19 : decode cJ33_add 19 = .ok (.ireturn, 1) := dk_172 (dk_at dksJ33_add_0 19 rfl rfl)
theorem q160 : (Jvm.Cond.initialized "java/util/HashSet") ∈ lw_all := lw_g (lw_at lw_m1 41 rfl) rfl
theorem q876 : (Jvm.Cond.selects "java/util/HashSet" ({ cls := "java/lang/Object", name := "getClass", desc := "()Ljava/lang/Class;" } : Jvm.MethodName) ({ cls := "java/lang/Object", name := "getClass", desc := "()Ljava/lang/Class;" } : Jvm.MethodName)) ∈ lw_all := lw_g (lw_at lw_m4 37 rfl) rfl
theorem q936 : (Jvm.Cond.instanceMethod ({ cls := "java/util/HashSet", name := "iterator", desc := "()Ljava/util/Iterator;" } : Jvm.MethodName)) ∈ lw_all := lw_g (lw_at lw_m4 97 rfl) rfl
theorem q937 : (Jvm.Cond.selects "java/util/HashSet" ({ cls := "java/util/HashSet", name := "iterator", desc := "()Ljava/util/Iterator;" } : Jvm.MethodName) ({ cls := "java/util/HashSet", name := "iterator", desc := "()Ljava/util/Iterator;" } : Jvm.MethodName)) ∈ lw_all := lw_g (lw_at lw_m4 98 rfl) rfl
theorem q938 : (Jvm.Cond.code ({ cls := "java/util/HashSet", name := "iterator", desc := "()Ljava/util/Iterator;" } : Jvm.MethodName) prog_64_method_6_code (1 : Nat) (Option.some (Jvm.ClassFile.FieldType.object "java/util/Iterator"))) ∈ lw_all := lw_g (lw_at lw_m4 99 rfl) rfl
theorem q939 : (Jvm.Cond.methodLink "java/util/HashSet" (45 : Nat) ({ cls := "java/util/HashMap", name := "keySet", desc := "()Ljava/util/Set;" } : Jvm.MethodName)) ∈ lw_all := lw_g (lw_at lw_m4 100 rfl) rfl
theorem q956 : (Jvm.Cond.interfaceEntry "java/util/HashSet" (49 : Nat)) ∈ lw_tbl := lw_at lw_m4 117 rfl
theorem q957 : (Jvm.Cond.methodLink "java/util/HashSet" (49 : Nat) ({ cls := "java/util/Set", name := "iterator", desc := "()Ljava/util/Iterator;" } : Jvm.MethodName)) ∈ lw_all := lw_g (lw_at lw_m4 118 rfl) rfl
theorem q991 : (Jvm.Cond.castable "java/util/HashSet" "java/util/Set") ∈ lw_tbl := lw_at lw_m4 152 rfl
theorem q992 : (Jvm.Cond.selects "java/util/HashSet" ({ cls := "java/util/Set", name := "iterator", desc := "()Ljava/util/Iterator;" } : Jvm.MethodName) ({ cls := "java/util/HashSet", name := "iterator", desc := "()Ljava/util/Iterator;" } : Jvm.MethodName)) ∈ lw_all := lw_g (lw_at lw_m4 153 rfl) rfl
theorem q993 : (Jvm.Cond.unhidden "java/util/HashSet" "iterator" "()Ljava/util/Iterator;") ∈ lw_tbl := lw_at lw_m4 154 rfl
theorem q994 : (Jvm.Cond.publicMethod ({ cls := "java/util/HashSet", name := "iterator", desc := "()Ljava/util/Iterator;" } : Jvm.MethodName)) ∈ lw_tbl := lw_at lw_m4 155 rfl
theorem q1161 : (Jvm.Cond.instanceMethod ({ cls := "java/util/HashSet", name := "contains", desc := "(Ljava/lang/Object;)Z" } : Jvm.MethodName)) ∈ lw_all := lw_g (lw_at lw_m5 82 rfl) rfl
theorem q1162 : (Jvm.Cond.selects "java/util/HashSet" ({ cls := "java/util/HashSet", name := "contains", desc := "(Ljava/lang/Object;)Z" } : Jvm.MethodName) ({ cls := "java/util/HashSet", name := "contains", desc := "(Ljava/lang/Object;)Z" } : Jvm.MethodName)) ∈ lw_all := lw_g (lw_at lw_m5 83 rfl) rfl
theorem q1163 : (Jvm.Cond.code ({ cls := "java/util/HashSet", name := "contains", desc := "(Ljava/lang/Object;)Z" } : Jvm.MethodName) prog_64_method_9_code (2 : Nat) (Option.some Jvm.ClassFile.FieldType.boolean)) ∈ lw_all := lw_g (lw_at lw_m5 84 rfl) rfl
theorem q1164 : (Jvm.Cond.methodLink "java/util/HashSet" (60 : Nat) ({ cls := "java/util/HashMap", name := "containsKey", desc := "(Ljava/lang/Object;)Z" } : Jvm.MethodName)) ∈ lw_all := lw_g (lw_at lw_m5 85 rfl) rfl
theorem q1573 : (Jvm.Cond.instanceMethod ({ cls := "java/util/HashSet", name := "size", desc := "()I" } : Jvm.MethodName)) ∈ lw_all := lw_g (lw_at lw_m7 14 rfl) rfl
theorem q1574 : (Jvm.Cond.selects "java/util/HashSet" ({ cls := "java/util/HashSet", name := "size", desc := "()I" } : Jvm.MethodName) ({ cls := "java/util/HashSet", name := "size", desc := "()I" } : Jvm.MethodName)) ∈ lw_all := lw_g (lw_at lw_m7 15 rfl) rfl
theorem q1575 : (Jvm.Cond.code ({ cls := "java/util/HashSet", name := "size", desc := "()I" } : Jvm.MethodName) prog_64_method_7_code (1 : Nat) (Option.some Jvm.ClassFile.FieldType.int)) ∈ lw_all := lw_g (lw_at lw_m7 16 rfl) rfl
theorem q1576 : (Jvm.Cond.methodLink "java/util/HashSet" (55 : Nat) ({ cls := "java/util/HashMap", name := "size", desc := "()I" } : Jvm.MethodName)) ∈ lw_all := lw_g (lw_at lw_m7 17 rfl) rfl
theorem q1795 : (Jvm.Cond.selects "java/util/HashSet" ({ cls := "java/util/AbstractCollection", name := "size", desc := "()I" } : Jvm.MethodName) ({ cls := "java/util/HashSet", name := "size", desc := "()I" } : Jvm.MethodName)) ∈ lw_all := lw_g (lw_at lw_m7 236 rfl) rfl
theorem q1919 : (Jvm.Cond.castable "java/util/HashSet" "java/util/Collection") ∈ lw_tbl := lw_at lw_m8 120 rfl
theorem q1920 : (Jvm.Cond.selects "java/util/HashSet" ({ cls := "java/util/Collection", name := "toArray", desc := "()[Ljava/lang/Object;" } : Jvm.MethodName) ({ cls := "java/util/HashSet", name := "toArray", desc := "()[Ljava/lang/Object;" } : Jvm.MethodName)) ∈ lw_all := lw_g (lw_at lw_m8 121 rfl) rfl
theorem q1921 : (Jvm.Cond.unhidden "java/util/HashSet" "toArray" "()[Ljava/lang/Object;") ∈ lw_tbl := lw_at lw_m8 122 rfl
theorem q1922 : (Jvm.Cond.instanceMethod ({ cls := "java/util/HashSet", name := "toArray", desc := "()[Ljava/lang/Object;" } : Jvm.MethodName)) ∈ lw_all := lw_g (lw_at lw_m8 123 rfl) rfl
theorem q1923 : (Jvm.Cond.publicMethod ({ cls := "java/util/HashSet", name := "toArray", desc := "()[Ljava/lang/Object;" } : Jvm.MethodName)) ∈ lw_tbl := lw_at lw_m8 124 rfl
theorem q1924 : (Jvm.Cond.code ({ cls := "java/util/HashSet", name := "toArray", desc := "()[Ljava/lang/Object;" } : Jvm.MethodName) prog_64_method_17_code (1 : Nat) (Option.some (Jvm.ClassFile.FieldType.array (Jvm.ClassFile.FieldType.object "java/lang/Object")))) ∈ lw_all := lw_g (lw_at lw_m8 125 rfl) rfl
theorem q1925 : (Jvm.Cond.classLink "java/util/HashSet" (80 : Nat) "java/lang/Object") ∈ lw_all := lw_g (lw_at lw_m8 126 rfl) rfl
theorem q1926 : (Jvm.Cond.methodLink "java/util/HashSet" (209 : Nat) ({ cls := "java/util/HashMap", name := "keysToArray", desc := "([Ljava/lang/Object;)[Ljava/lang/Object;" } : Jvm.MethodName)) ∈ lw_all := lw_g (lw_at lw_m8 127 rfl) rfl
theorem q1945 : (Jvm.Cond.selects "java/util/HashSet" ({ cls := "java/util/AbstractCollection", name := "iterator", desc := "()Ljava/util/Iterator;" } : Jvm.MethodName) ({ cls := "java/util/HashSet", name := "iterator", desc := "()Ljava/util/Iterator;" } : Jvm.MethodName)) ∈ lw_all := lw_g (lw_at lw_m8 146 rfl) rfl
theorem q2012 : (Jvm.Cond.instantiable "java/util/HashSet" (1 : Nat)) ∈ lw_all := lw_g (lw_at lw_m8 213 rfl) rfl
theorem q2014 : (Jvm.Cond.instanceMethod ({ cls := "java/util/HashSet", name := "<init>", desc := "()V" } : Jvm.MethodName)) ∈ lw_all := lw_g (lw_at lw_m8 215 rfl) rfl
theorem q2015 : (Jvm.Cond.code ({ cls := "java/util/HashSet", name := "<init>", desc := "()V" } : Jvm.MethodName) prog_64_method_1_code (1 : Nat) (Option.none : Option Jvm.ClassFile.FieldType)) ∈ lw_all := lw_g (lw_at lw_m8 216 rfl) rfl
theorem q2016 : (Jvm.Cond.methodLink "java/util/HashSet" (1 : Nat) ({ cls := "java/util/AbstractSet", name := "<init>", desc := "()V" } : Jvm.MethodName)) ∈ lw_all := lw_g (lw_at lw_m8 217 rfl) rfl
theorem q2017 : (Jvm.Cond.classLink "java/util/HashSet" (7 : Nat) "java/util/HashMap") ∈ lw_all := lw_g (lw_at lw_m8 218 rfl) rfl
theorem q2018 : (Jvm.Cond.methodLink "java/util/HashSet" (9 : Nat) ({ cls := "java/util/HashMap", name := "<init>", desc := "()V" } : Jvm.MethodName)) ∈ lw_all := lw_g (lw_at lw_m8 219 rfl) rfl
theorem q2019 : (Jvm.Cond.fieldLink "java/util/HashSet" (10 : Nat) "java/util/HashSet" "map" "Ljava/util/HashMap;") ∈ lw_all := lw_g (lw_at lw_m8 220 rfl) rfl
theorem q2020 : (Jvm.Cond.lays "java/util/HashSet" "java/util/HashSet" "map" "Ljava/util/HashMap;") ∈ lw_all := lw_g (lw_at lw_m8 221 rfl) rfl
theorem q2021 : (Jvm.Cond.soleField "java/util/HashSet" "map") ∈ lw_all := lw_g (lw_at lw_m8 222 rfl) rfl
theorem q2022 : (Jvm.Cond.superclass "java/util/HashSet" "java/util/AbstractSet") ∈ lw_all := lw_g (lw_at lw_m8 223 rfl) rfl
theorem q2024 : (Jvm.Cond.sameMethod "java/util/HashSet" "java/util/AbstractCollection" "addAll" "(Ljava/util/Collection;)Z") ∈ lw_all := lw_g (lw_at lw_m8 225 rfl) rfl
theorem q2026 : (Jvm.Cond.selects "java/util/HashSet" ({ cls := "java/util/HashSet", name := "addAll", desc := "(Ljava/util/Collection;)Z" } : Jvm.MethodName) ({ cls := "java/util/AbstractCollection", name := "addAll", desc := "(Ljava/util/Collection;)Z" } : Jvm.MethodName)) ∈ lw_all := lw_g (lw_at lw_m8 227 rfl) rfl
theorem q2037 : (Jvm.Cond.selects "java/util/HashSet" ({ cls := "java/util/Collection", name := "iterator", desc := "()Ljava/util/Iterator;" } : Jvm.MethodName) ({ cls := "java/util/HashSet", name := "iterator", desc := "()Ljava/util/Iterator;" } : Jvm.MethodName)) ∈ lw_all := lw_g (lw_at lw_m8 238 rfl) rfl
theorem q2048 : (Jvm.Cond.selects "java/util/HashSet" ({ cls := "java/util/AbstractCollection", name := "add", desc := "(Ljava/lang/Object;)Z" } : Jvm.MethodName) ({ cls := "java/util/HashSet", name := "add", desc := "(Ljava/lang/Object;)Z" } : Jvm.MethodName)) ∈ lw_all := lw_g (lw_at lw_m9 9 rfl) rfl
theorem q2049 : (Jvm.Cond.instanceMethod ({ cls := "java/util/HashSet", name := "add", desc := "(Ljava/lang/Object;)Z" } : Jvm.MethodName)) ∈ lw_all := lw_g (lw_at lw_m9 10 rfl) rfl
theorem q2050 : (Jvm.Cond.code ({ cls := "java/util/HashSet", name := "add", desc := "(Ljava/lang/Object;)Z" } : Jvm.MethodName) prog_64_method_10_code (2 : Nat) (Option.some Jvm.ClassFile.FieldType.boolean)) ∈ lw_all := lw_g (lw_at lw_m9 11 rfl) rfl
theorem q2051 : (Jvm.Cond.fieldLink "java/util/HashSet" (64 : Nat) "java/util/HashSet" "PRESENT" "Ljava/lang/Object;") ∈ lw_all := lw_g (lw_at lw_m9 12 rfl) rfl
theorem q2052 : (Jvm.Cond.laysStatic "java/util/HashSet" "PRESENT" "Ljava/lang/Object;") ∈ lw_tbl := lw_at lw_m9 13 rfl
theorem q2053 : (Jvm.Cond.methodLink "java/util/HashSet" (68 : Nat) ({ cls := "java/util/HashMap", name := "put", desc := "(Ljava/lang/Object;Ljava/lang/Object;)Ljava/lang/Object;" } : Jvm.MethodName)) ∈ lw_all := lw_g (lw_at lw_m9 14 rfl) rfl
theorem q3807 : (Jvm.Cond.castable "java/util/HashSet" "java/lang/Object") ∈ lw_tbl := lw_at lw_m16 88 rfl
theorem in_J33 : ∀ w ∈ wsJ330, w ∈ lw_all := lw_in wsJ330 [2020] (by decide +kernel) (by decide +kernel)

/-! java/lang/Boolean -/
set_option maxRecDepth 100000
def RJ34 : String := "java/lang/Boolean"
abbrev cJ34_hashCode : ByteArray := prog_21_method_9_code
def yJ34_hashCode : MethodName := ⟨RJ34, "hashCode", "()I"⟩
def dkwJ34_hashCode_0 : List UInt8 := [42, 180, 0, 7, 184, 0, 38, 172]
abbrev dktJ34_hashCode_0 : List UInt8 := dkwJ34_hashCode_0 ++ []
theorem dksJ34_hashCode_0 : cJ34_hashCode.data.toList.drop 0 = dktJ34_hashCode_0 := by decide +kernel
theorem dJ34_hashCode_0 : decode cJ34_hashCode 0 = .ok (.aload_n 0, 1) := dk_42 (dk_at dksJ34_hashCode_0 0 rfl rfl)
theorem dJ34_hashCode_1 : decode cJ34_hashCode 1 = .ok (.getfield 7, 3) := dk_180 0 7 (dk_at dksJ34_hashCode_0 1 rfl rfl)
theorem dJ34_hashCode_4 : decode cJ34_hashCode 4 = .ok (.invokestatic 38, 3) := dk_184 0 38 (dk_at dksJ34_hashCode_0 4 rfl rfl)
theorem dJ34_hashCode_7 : decode cJ34_hashCode 7 = .ok (.ireturn, 1) := dk_172 (dk_at dksJ34_hashCode_0 7 rfl rfl)
abbrev cJ34_hashCode_2 : ByteArray := prog_21_method_10_code
def yJ34_hashCode_2 : MethodName := ⟨RJ34, "hashCode", "(Z)I"⟩
def dkwJ34_hashCode_2_0 : List UInt8 := [26, 153, 0, 9, 17, 4, 207, 167, 0, 6, 17, 4, 213, 172]
abbrev dktJ34_hashCode_2_0 : List UInt8 := dkwJ34_hashCode_2_0 ++ []
theorem dksJ34_hashCode_2_0 : cJ34_hashCode_2.data.toList.drop 0 = dktJ34_hashCode_2_0 := by decide +kernel
theorem dJ34_hashCode_2_0 : decode cJ34_hashCode_2 0 = .ok (.iload_n 0, 1) := dk_26 (dk_at dksJ34_hashCode_2_0 0 rfl rfl)
theorem dJ34_hashCode_2_1 : decode cJ34_hashCode_2 1 = .ok (.ifCond .eq 9, 3) := dk_153 0 9 (dk_at dksJ34_hashCode_2_0 1 rfl rfl)
theorem dJ34_hashCode_2_4 : decode cJ34_hashCode_2 4 = .ok (.sipush 1231, 3) := dk_17 4 207 (dk_at dksJ34_hashCode_2_0 4 rfl rfl)
theorem dJ34_hashCode_2_7 : decode cJ34_hashCode_2 7 = .ok (.goto 6, 3) := dk_167 0 6 (dk_at dksJ34_hashCode_2_0 7 rfl rfl)
theorem dJ34_hashCode_2_10 : decode cJ34_hashCode_2 10 = .ok (.sipush 1237, 3) := dk_17 4 213 (dk_at dksJ34_hashCode_2_0 10 rfl rfl)
theorem dJ34_hashCode_2_13 : decode cJ34_hashCode_2 13 = .ok (.ireturn, 1) := dk_172 (dk_at dksJ34_hashCode_2_0 13 rfl rfl)
abbrev cJ34_equals : ByteArray := prog_21_method_11_code
def yJ34_equals : MethodName := ⟨RJ34, "equals", "(Ljava/lang/Object;)Z"⟩
def dkwJ34_equals_1 : List UInt8 := [167, 0, 4, 3, 172, 3, 172]
abbrev dktJ34_equals_1 : List UInt8 := dkwJ34_equals_1 ++ []
def dkwJ34_equals_0 : List UInt8 := [43, 193, 0, 8, 153, 0, 23, 42, 180, 0, 7, 43, 192, 0, 8, 182, 0, 42, 160, 0, 7, 4]
abbrev dktJ34_equals_0 : List UInt8 := dkwJ34_equals_0 ++ dktJ34_equals_1
theorem dksJ34_equals_0 : cJ34_equals.data.toList.drop 0 = dktJ34_equals_0 := by decide +kernel
theorem dksJ34_equals_1 : cJ34_equals.data.toList.drop 22 = dktJ34_equals_1 := dk_seg dksJ34_equals_0 22 rfl rfl
theorem dJ34_equals_0 : decode cJ34_equals 0 = .ok (.aload_n 1, 1) := dk_43 (dk_at dksJ34_equals_0 0 rfl rfl)
theorem dJ34_equals_1 : decode cJ34_equals 1 = .ok (.instanceof 8, 3) := dk_193 0 8 (dk_at dksJ34_equals_0 1 rfl rfl)
theorem dJ34_equals_4 : decode cJ34_equals 4 = .ok (.ifCond .eq 23, 3) := dk_153 0 23 (dk_at dksJ34_equals_0 4 rfl rfl)
theorem dJ34_equals_7 : decode cJ34_equals 7 = .ok (.aload_n 0, 1) := dk_42 (dk_at dksJ34_equals_0 7 rfl rfl)
theorem dJ34_equals_8 : decode cJ34_equals 8 = .ok (.getfield 7, 3) := dk_180 0 7 (dk_at dksJ34_equals_0 8 rfl rfl)
theorem dJ34_equals_11 : decode cJ34_equals 11 = .ok (.aload_n 1, 1) := dk_43 (dk_at dksJ34_equals_0 11 rfl rfl)
theorem dJ34_equals_12 : decode cJ34_equals 12 = .ok (.checkcast 8, 3) := dk_192 0 8 (dk_at dksJ34_equals_0 12 rfl rfl)
theorem dJ34_equals_15 : decode cJ34_equals 15 = .ok (.invokevirtual 42, 3) := dk_182 0 42 (dk_at dksJ34_equals_0 15 rfl rfl)
theorem dJ34_equals_18 : decode cJ34_equals 18 = .ok (.if_icmp .ne 7, 3) := dk_160 0 7 (dk_at dksJ34_equals_0 18 rfl rfl)
theorem dJ34_equals_21 : decode cJ34_equals 21 = .ok (.iconst 1, 1) := dk_4 (dk_at dksJ34_equals_0 21 rfl rfl)
theorem dJ34_equals_22 : decode cJ34_equals 22 = .ok (.goto 4, 3) := dk_167 0 4 (dk_at dksJ34_equals_1 0 rfl rfl)
theorem dJ34_equals_25 : decode cJ34_equals 25 = .ok (.iconst 0, 1) := dk_3 (dk_at dksJ34_equals_1 3 rfl rfl)
theorem dJ34_equals_26 : decode cJ34_equals 26 = .ok (.ireturn, 1) := dk_172 (dk_at dksJ34_equals_1 4 rfl rfl)
theorem dJ34_equals_27 : decode cJ34_equals 27 = .ok (.iconst 0, 1) := dk_3 (dk_at dksJ34_equals_1 5 rfl rfl)
theorem dJ34_equals_28 : decode cJ34_equals 28 = .ok (.ireturn, 1) := dk_172 (dk_at dksJ34_equals_1 6 rfl rfl)
abbrev cJ34_booleanValue : ByteArray := prog_21_method_4_code
def yJ34_booleanValue : MethodName := ⟨RJ34, "booleanValue", "()Z"⟩
theorem dJ34_booleanValue_0 : decode cJ34_booleanValue 0 = .ok (.aload_n 0, 1) := by decide +kernel
theorem dJ34_booleanValue_1 : decode cJ34_booleanValue 1 = .ok (.getfield 7, 3) := by decide +kernel
theorem dJ34_booleanValue_4 : decode cJ34_booleanValue 4 = .ok (.ireturn, 1) := by decide +kernel
abbrev cJ34_compareTo : ByteArray := prog_21_method_19_code
def yJ34_compareTo : MethodName := ⟨RJ34, "compareTo", "(Ljava/lang/Object;)I"⟩
def dkwJ34_compareTo_0 : List UInt8 := [42, 43, 192, 0, 8, 182, 0, 73, 172]
abbrev dktJ34_compareTo_0 : List UInt8 := dkwJ34_compareTo_0 ++ []
theorem dksJ34_compareTo_0 : cJ34_compareTo.data.toList.drop 0 = dktJ34_compareTo_0 := by decide +kernel
theorem dJ34_compareTo_0 : decode cJ34_compareTo 0 = .ok (.aload_n 0, 1) := dk_42 (dk_at dksJ34_compareTo_0 0 rfl rfl)
theorem dJ34_compareTo_1 : decode cJ34_compareTo 1 = .ok (.aload_n 1, 1) := dk_43 (dk_at dksJ34_compareTo_0 1 rfl rfl)
theorem dJ34_compareTo_2 : decode cJ34_compareTo 2 = .ok (.checkcast 8, 3) := dk_192 0 8 (dk_at dksJ34_compareTo_0 2 rfl rfl)
theorem dJ34_compareTo_5 : decode cJ34_compareTo 5 = .ok (.invokevirtual 73, 3) := dk_182 0 73 (dk_at dksJ34_compareTo_0 5 rfl rfl)
theorem dJ34_compareTo_8 : decode cJ34_compareTo 8 = .ok (.ireturn, 1) := dk_172 (dk_at dksJ34_compareTo_0 8 rfl rfl)
abbrev cJ34_compareTo_2 : ByteArray := prog_21_method_13_code
def yJ34_compareTo_2 : MethodName := ⟨RJ34, "compareTo", "(Ljava/lang/Boolean;)I"⟩
def dkwJ34_compareTo_2_0 : List UInt8 := [42, 180, 0, 7, 43, 180, 0, 7, 184, 0, 56, 172]
abbrev dktJ34_compareTo_2_0 : List UInt8 := dkwJ34_compareTo_2_0 ++ []
theorem dksJ34_compareTo_2_0 : cJ34_compareTo_2.data.toList.drop 0 = dktJ34_compareTo_2_0 := by decide +kernel
theorem dJ34_compareTo_2_0 : decode cJ34_compareTo_2 0 = .ok (.aload_n 0, 1) := dk_42 (dk_at dksJ34_compareTo_2_0 0 rfl rfl)
theorem dJ34_compareTo_2_1 : decode cJ34_compareTo_2 1 = .ok (.getfield 7, 3) := dk_180 0 7 (dk_at dksJ34_compareTo_2_0 1 rfl rfl)
theorem dJ34_compareTo_2_4 : decode cJ34_compareTo_2 4 = .ok (.aload_n 1, 1) := dk_43 (dk_at dksJ34_compareTo_2_0 4 rfl rfl)
theorem dJ34_compareTo_2_5 : decode cJ34_compareTo_2 5 = .ok (.getfield 7, 3) := dk_180 0 7 (dk_at dksJ34_compareTo_2_0 5 rfl rfl)
theorem dJ34_compareTo_2_8 : decode cJ34_compareTo_2 8 = .ok (.invokestatic 56, 3) := dk_184 0 56 (dk_at dksJ34_compareTo_2_0 8 rfl rfl)
theorem dJ34_compareTo_2_11 : decode cJ34_compareTo_2 11 = .ok (.ireturn, 1) := dk_172 (dk_at dksJ34_compareTo_2_0 11 rfl rfl)
abbrev cJ34_compare : ByteArray := prog_21_method_14_code
def yJ34_compare : MethodName := ⟨RJ34, "compare", "(ZZ)I"⟩
def dkwJ34_compare_0 : List UInt8 := [26, 27, 160, 0, 7, 3, 167, 0, 12, 26, 153, 0, 7, 4, 167, 0, 4, 2, 172]
abbrev dktJ34_compare_0 : List UInt8 := dkwJ34_compare_0 ++ []
theorem dksJ34_compare_0 : cJ34_compare.data.toList.drop 0 = dktJ34_compare_0 := by decide +kernel
theorem dJ34_compare_0 : decode cJ34_compare 0 = .ok (.iload_n 0, 1) := dk_26 (dk_at dksJ34_compare_0 0 rfl rfl)
theorem dJ34_compare_1 : decode cJ34_compare 1 = .ok (.iload_n 1, 1) := dk_27 (dk_at dksJ34_compare_0 1 rfl rfl)
theorem dJ34_compare_2 : decode cJ34_compare 2 = .ok (.if_icmp .ne 7, 3) := dk_160 0 7 (dk_at dksJ34_compare_0 2 rfl rfl)
theorem dJ34_compare_5 : decode cJ34_compare 5 = .ok (.iconst 0, 1) := dk_3 (dk_at dksJ34_compare_0 5 rfl rfl)
theorem dJ34_compare_6 : decode cJ34_compare 6 = .ok (.goto 12, 3) := dk_167 0 12 (dk_at dksJ34_compare_0 6 rfl rfl)
theorem dJ34_compare_9 : decode cJ34_compare 9 = .ok (.iload_n 0, 1) := dk_26 (dk_at dksJ34_compare_0 9 rfl rfl)
theorem dJ34_compare_10 : decode cJ34_compare 10 = .ok (.ifCond .eq 7, 3) := dk_153 0 7 (dk_at dksJ34_compare_0 10 rfl rfl)
theorem dJ34_compare_13 : decode cJ34_compare 13 = .ok (.iconst 1, 1) := dk_4 (dk_at dksJ34_compare_0 13 rfl rfl)
theorem dJ34_compare_14 : decode cJ34_compare 14 = .ok (.goto 4, 3) := dk_167 0 4 (dk_at dksJ34_compare_0 14 rfl rfl)
theorem dJ34_compare_17 : decode cJ34_compare 17 = .ok (.iconst (-1), 1) := dk_2 (dk_at dksJ34_compare_0 17 rfl rfl)
theorem dJ34_compare_18 : decode cJ34_compare 18 = .ok (.ireturn, 1) := dk_172 (dk_at dksJ34_compare_0 18 rfl rfl)
abbrev cJ34_valueOf : ByteArray := prog_21_method_5_code
def yJ34_valueOf : MethodName := ⟨RJ34, "valueOf", "(Z)Ljava/lang/Boolean;"⟩
def dkwJ34_valueOf_0 : List UInt8 := [26, 153, 0, 9, 178, 0, 27, 167, 0, 6, 178, 0, 31, 176]
abbrev dktJ34_valueOf_0 : List UInt8 := dkwJ34_valueOf_0 ++ []
theorem dksJ34_valueOf_0 : cJ34_valueOf.data.toList.drop 0 = dktJ34_valueOf_0 := by decide +kernel
theorem dJ34_valueOf_0 : decode cJ34_valueOf 0 = .ok (.iload_n 0, 1) := dk_26 (dk_at dksJ34_valueOf_0 0 rfl rfl)
theorem dJ34_valueOf_1 : decode cJ34_valueOf 1 = .ok (.ifCond .eq 9, 3) := dk_153 0 9 (dk_at dksJ34_valueOf_0 1 rfl rfl)
theorem dJ34_valueOf_4 : decode cJ34_valueOf 4 = .ok (.getstatic 27, 3) := dk_178 0 27 (dk_at dksJ34_valueOf_0 4 rfl rfl)
theorem dJ34_valueOf_7 : decode cJ34_valueOf 7 = .ok (.goto 6, 3) := dk_167 0 6 (dk_at dksJ34_valueOf_0 7 rfl rfl)
theorem dJ34_valueOf_10 : decode cJ34_valueOf 10 = .ok (.getstatic 31, 3) := dk_178 0 31 (dk_at dksJ34_valueOf_0 10 rfl rfl)
theorem dJ34_valueOf_13 : decode cJ34_valueOf 13 = .ok (.areturn, 1) := dk_176 (dk_at dksJ34_valueOf_0 13 rfl rfl)
theorem q161 : (Jvm.Cond.initialized "java/lang/Boolean") ∈ lw_all := lw_g (lw_at lw_m1 42 rfl) rfl
theorem q860 : (Jvm.Cond.selects "java/lang/Boolean" ({ cls := "java/lang/Object", name := "getClass", desc := "()Ljava/lang/Class;" } : Jvm.MethodName) ({ cls := "java/lang/Object", name := "getClass", desc := "()Ljava/lang/Class;" } : Jvm.MethodName)) ∈ lw_all := lw_g (lw_at lw_m4 21 rfl) rfl
theorem q1200 : (Jvm.Cond.selects "java/lang/Boolean" ({ cls := "java/lang/Object", name := "hashCode", desc := "()I" } : Jvm.MethodName) ({ cls := "java/lang/Boolean", name := "hashCode", desc := "()I" } : Jvm.MethodName)) ∈ lw_all := lw_g (lw_at lw_m5 121 rfl) rfl
theorem q1201 : (Jvm.Cond.instanceMethod ({ cls := "java/lang/Boolean", name := "hashCode", desc := "()I" } : Jvm.MethodName)) ∈ lw_all := lw_g (lw_at lw_m5 122 rfl) rfl
theorem q1202 : (Jvm.Cond.code ({ cls := "java/lang/Boolean", name := "hashCode", desc := "()I" } : Jvm.MethodName) prog_21_method_9_code (1 : Nat) (Option.some Jvm.ClassFile.FieldType.int)) ∈ lw_all := lw_g (lw_at lw_m5 123 rfl) rfl
theorem q1203 : (Jvm.Cond.methodLink "java/lang/Boolean" (38 : Nat) ({ cls := "java/lang/Boolean", name := "hashCode", desc := "(Z)I" } : Jvm.MethodName)) ∈ lw_all := lw_g (lw_at lw_m5 124 rfl) rfl
theorem q1204 : (Jvm.Cond.static ({ cls := "java/lang/Boolean", name := "hashCode", desc := "(Z)I" } : Jvm.MethodName)) ∈ lw_all := lw_g (lw_at lw_m5 125 rfl) rfl
theorem q1205 : (Jvm.Cond.code ({ cls := "java/lang/Boolean", name := "hashCode", desc := "(Z)I" } : Jvm.MethodName) prog_21_method_10_code (1 : Nat) (Option.some Jvm.ClassFile.FieldType.int)) ∈ lw_all := lw_g (lw_at lw_m5 126 rfl) rfl
theorem q1302 : (Jvm.Cond.selects "java/lang/Boolean" ({ cls := "java/lang/Object", name := "equals", desc := "(Ljava/lang/Object;)Z" } : Jvm.MethodName) ({ cls := "java/lang/Boolean", name := "equals", desc := "(Ljava/lang/Object;)Z" } : Jvm.MethodName)) ∈ lw_all := lw_g (lw_at lw_m5 223 rfl) rfl
theorem q1303 : (Jvm.Cond.instanceMethod ({ cls := "java/lang/Boolean", name := "equals", desc := "(Ljava/lang/Object;)Z" } : Jvm.MethodName)) ∈ lw_all := lw_g (lw_at lw_m5 224 rfl) rfl
theorem q1304 : (Jvm.Cond.code ({ cls := "java/lang/Boolean", name := "equals", desc := "(Ljava/lang/Object;)Z" } : Jvm.MethodName) prog_21_method_11_code (2 : Nat) (Option.some Jvm.ClassFile.FieldType.boolean)) ∈ lw_all := lw_g (lw_at lw_m5 225 rfl) rfl
theorem q1305 : (Jvm.Cond.classLink "java/lang/Boolean" (8 : Nat) "java/lang/Boolean") ∈ lw_all := lw_g (lw_at lw_m5 226 rfl) rfl
theorem q1306 : (Jvm.Cond.methodLink "java/lang/Boolean" (42 : Nat) ({ cls := "java/lang/Boolean", name := "booleanValue", desc := "()Z" } : Jvm.MethodName)) ∈ lw_all := lw_g (lw_at lw_m5 227 rfl) rfl
theorem q1307 : (Jvm.Cond.instanceMethod ({ cls := "java/lang/Boolean", name := "booleanValue", desc := "()Z" } : Jvm.MethodName)) ∈ lw_all := lw_g (lw_at lw_m5 228 rfl) rfl
theorem q1308 : (Jvm.Cond.selects "java/lang/Boolean" ({ cls := "java/lang/Boolean", name := "booleanValue", desc := "()Z" } : Jvm.MethodName) ({ cls := "java/lang/Boolean", name := "booleanValue", desc := "()Z" } : Jvm.MethodName)) ∈ lw_all := lw_g (lw_at lw_m5 229 rfl) rfl
theorem q1309 : (Jvm.Cond.code ({ cls := "java/lang/Boolean", name := "booleanValue", desc := "()Z" } : Jvm.MethodName) prog_21_method_4_code (1 : Nat) (Option.some Jvm.ClassFile.FieldType.boolean)) ∈ lw_all := lw_g (lw_at lw_m5 230 rfl) rfl
theorem q1368 : (Jvm.Cond.castable "java/lang/Boolean" "java/lang/Comparable") ∈ lw_tbl := lw_at lw_m6 49 rfl
theorem q1369 : (Jvm.Cond.selects "java/lang/Boolean" ({ cls := "java/lang/Comparable", name := "compareTo", desc := "(Ljava/lang/Object;)I" } : Jvm.MethodName) ({ cls := "java/lang/Boolean", name := "compareTo", desc := "(Ljava/lang/Object;)I" } : Jvm.MethodName)) ∈ lw_all := lw_g (lw_at lw_m6 50 rfl) rfl
theorem q1370 : (Jvm.Cond.unhidden "java/lang/Boolean" "compareTo" "(Ljava/lang/Object;)I") ∈ lw_tbl := lw_at lw_m6 51 rfl
theorem q1371 : (Jvm.Cond.instanceMethod ({ cls := "java/lang/Boolean", name := "compareTo", desc := "(Ljava/lang/Object;)I" } : Jvm.MethodName)) ∈ lw_all := lw_g (lw_at lw_m6 52 rfl) rfl
theorem q1372 : (Jvm.Cond.publicMethod ({ cls := "java/lang/Boolean", name := "compareTo", desc := "(Ljava/lang/Object;)I" } : Jvm.MethodName)) ∈ lw_tbl := lw_at lw_m6 53 rfl
theorem q1373 : (Jvm.Cond.code ({ cls := "java/lang/Boolean", name := "compareTo", desc := "(Ljava/lang/Object;)I" } : Jvm.MethodName) prog_21_method_19_code (2 : Nat) (Option.some Jvm.ClassFile.FieldType.int)) ∈ lw_all := lw_g (lw_at lw_m6 54 rfl) rfl
theorem q1374 : (Jvm.Cond.methodLink "java/lang/Boolean" (73 : Nat) ({ cls := "java/lang/Boolean", name := "compareTo", desc := "(Ljava/lang/Boolean;)I" } : Jvm.MethodName)) ∈ lw_all := lw_g (lw_at lw_m6 55 rfl) rfl
theorem q1375 : (Jvm.Cond.instanceMethod ({ cls := "java/lang/Boolean", name := "compareTo", desc := "(Ljava/lang/Boolean;)I" } : Jvm.MethodName)) ∈ lw_all := lw_g (lw_at lw_m6 56 rfl) rfl
theorem q1376 : (Jvm.Cond.selects "java/lang/Boolean" ({ cls := "java/lang/Boolean", name := "compareTo", desc := "(Ljava/lang/Boolean;)I" } : Jvm.MethodName) ({ cls := "java/lang/Boolean", name := "compareTo", desc := "(Ljava/lang/Boolean;)I" } : Jvm.MethodName)) ∈ lw_all := lw_g (lw_at lw_m6 57 rfl) rfl
theorem q1377 : (Jvm.Cond.code ({ cls := "java/lang/Boolean", name := "compareTo", desc := "(Ljava/lang/Boolean;)I" } : Jvm.MethodName) prog_21_method_13_code (2 : Nat) (Option.some Jvm.ClassFile.FieldType.int)) ∈ lw_all := lw_g (lw_at lw_m6 58 rfl) rfl
theorem q1378 : (Jvm.Cond.methodLink "java/lang/Boolean" (56 : Nat) ({ cls := "java/lang/Boolean", name := "compare", desc := "(ZZ)I" } : Jvm.MethodName)) ∈ lw_all := lw_g (lw_at lw_m6 59 rfl) rfl
theorem q1379 : (Jvm.Cond.static ({ cls := "java/lang/Boolean", name := "compare", desc := "(ZZ)I" } : Jvm.MethodName)) ∈ lw_all := lw_g (lw_at lw_m6 60 rfl) rfl
theorem q1380 : (Jvm.Cond.code ({ cls := "java/lang/Boolean", name := "compare", desc := "(ZZ)I" } : Jvm.MethodName) prog_21_method_14_code (2 : Nat) (Option.some Jvm.ClassFile.FieldType.int)) ∈ lw_all := lw_g (lw_at lw_m6 61 rfl) rfl
theorem q2502 : (Jvm.Cond.static ({ cls := "java/lang/Boolean", name := "valueOf", desc := "(Z)Ljava/lang/Boolean;" } : Jvm.MethodName)) ∈ lw_all := lw_g (lw_at lw_m10 223 rfl) rfl
theorem q2503 : (Jvm.Cond.code ({ cls := "java/lang/Boolean", name := "valueOf", desc := "(Z)Ljava/lang/Boolean;" } : Jvm.MethodName) prog_21_method_5_code (1 : Nat) (Option.some (Jvm.ClassFile.FieldType.object "java/lang/Boolean"))) ∈ lw_all := lw_g (lw_at lw_m10 224 rfl) rfl
theorem q2504 : (Jvm.Cond.fieldLink "java/lang/Boolean" (27 : Nat) "java/lang/Boolean" "TRUE" "Ljava/lang/Boolean;") ∈ lw_all := lw_g (lw_at lw_m10 225 rfl) rfl
theorem q2505 : (Jvm.Cond.laysStatic "java/lang/Boolean" "TRUE" "Ljava/lang/Boolean;") ∈ lw_tbl := lw_at lw_m10 226 rfl
theorem q2506 : (Jvm.Cond.fieldLink "java/lang/Boolean" (31 : Nat) "java/lang/Boolean" "FALSE" "Ljava/lang/Boolean;") ∈ lw_all := lw_g (lw_at lw_m10 227 rfl) rfl
theorem q2507 : (Jvm.Cond.laysStatic "java/lang/Boolean" "FALSE" "Ljava/lang/Boolean;") ∈ lw_tbl := lw_at lw_m10 228 rfl
theorem q3816 : (Jvm.Cond.castable "java/lang/Boolean" "java/lang/Object") ∈ lw_tbl := lw_at lw_m16 97 rfl
theorem q3851 : (Jvm.Cond.fieldLink "java/lang/Boolean" (7 : Nat) "java/lang/Boolean" "value" "Z") ∈ lw_all := lw_g (lw_at lw_m16 132 rfl) rfl

/-! java/util/HashMap$Node -/
set_option maxRecDepth 100000
def RJ35 : String := "java/util/HashMap$Node"
def TJ35 : u_T := fun k => match k with
  | 0 => ("java/util/HashMap$Node", "hash", "I", true)
  | 1 => ("java/util/HashMap$Node", "key", "Ljava/lang/Object;", true)
  | 2 => ("java/util/HashMap$Node", "value", "Ljava/lang/Object;", false)
  | _ => ("java/util/HashMap$Node", "next", "Ljava/util/HashMap$Node;", false)
def tyJ35 : Nat → FieldType := fun k => match k with
  | 0 => .int
  | 1 => .object "java/lang/Object"
  | 2 => .object "java/lang/Object"
  | _ => .object "java/util/HashMap$Node"
abbrev wsJ350 : List Cond := u_ws RJ35 TJ35 4
theorem nmJ35 : ∀ a, a < 4 → ∀ b, b < 4 → a ≠ b → (TJ35 a).2.1 ≠ (TJ35 b).2.1 := by decide +kernel
theorem tyJ35_ok : ∀ k, k < 4 → parseFieldDescriptor (TJ35 k).2.2.1 = some (tyJ35 k) := by decide +kernel
abbrev cJ35_init : ByteArray := prog_62_method_1_code
def yJ35_init : MethodName := ⟨RJ35, "<init>", "(ILjava/lang/Object;Ljava/lang/Object;Ljava/util/HashMap$Node;)V"⟩
def dkwJ35_init_1 : List UInt8 := [181, 0, 20, 177]
abbrev dktJ35_init_1 : List UInt8 := dkwJ35_init_1 ++ []
def dkwJ35_init_0 : List UInt8 := [42, 183, 0, 1, 42, 27, 181, 0, 7, 42, 44, 181, 0, 13, 42, 45, 181, 0, 17, 42, 25, 4]
abbrev dktJ35_init_0 : List UInt8 := dkwJ35_init_0 ++ dktJ35_init_1
theorem dksJ35_init_0 : cJ35_init.data.toList.drop 0 = dktJ35_init_0 := by decide +kernel
theorem dksJ35_init_1 : cJ35_init.data.toList.drop 22 = dktJ35_init_1 := dk_seg dksJ35_init_0 22 rfl rfl
theorem dJ35_init_0 : decode cJ35_init 0 = .ok (.aload_n 0, 1) := dk_42 (dk_at dksJ35_init_0 0 rfl rfl)
theorem dJ35_init_1 : decode cJ35_init 1 = .ok (.invokespecial 1, 3) := dk_183 0 1 (dk_at dksJ35_init_0 1 rfl rfl)
theorem dJ35_init_4 : decode cJ35_init 4 = .ok (.aload_n 0, 1) := dk_42 (dk_at dksJ35_init_0 4 rfl rfl)
theorem dJ35_init_5 : decode cJ35_init 5 = .ok (.iload_n 1, 1) := dk_27 (dk_at dksJ35_init_0 5 rfl rfl)
theorem dJ35_init_6 : decode cJ35_init 6 = .ok (.putfield 7, 3) := dk_181 0 7 (dk_at dksJ35_init_0 6 rfl rfl)
theorem dJ35_init_9 : decode cJ35_init 9 = .ok (.aload_n 0, 1) := dk_42 (dk_at dksJ35_init_0 9 rfl rfl)
theorem dJ35_init_10 : decode cJ35_init 10 = .ok (.aload_n 2, 1) := dk_44 (dk_at dksJ35_init_0 10 rfl rfl)
theorem dJ35_init_11 : decode cJ35_init 11 = .ok (.putfield 13, 3) := dk_181 0 13 (dk_at dksJ35_init_0 11 rfl rfl)
theorem dJ35_init_14 : decode cJ35_init 14 = .ok (.aload_n 0, 1) := dk_42 (dk_at dksJ35_init_0 14 rfl rfl)
theorem dJ35_init_15 : decode cJ35_init 15 = .ok (.aload_n 3, 1) := dk_45 (dk_at dksJ35_init_0 15 rfl rfl)
theorem dJ35_init_16 : decode cJ35_init 16 = .ok (.putfield 17, 3) := dk_181 0 17 (dk_at dksJ35_init_0 16 rfl rfl)
theorem dJ35_init_19 : decode cJ35_init 19 = .ok (.aload_n 0, 1) := dk_42 (dk_at dksJ35_init_0 19 rfl rfl)
theorem dJ35_init_20 : decode cJ35_init 20 = .ok (.aload 4, 2) := dk_25 4 (dk_at dksJ35_init_0 20 rfl rfl)
theorem dJ35_init_22 : decode cJ35_init 22 = .ok (.putfield 20, 3) := dk_181 0 20 (dk_at dksJ35_init_1 0 rfl rfl)
theorem dJ35_init_25 : decode cJ35_init 25 = .ok (.return_, 1) := dk_177 (dk_at dksJ35_init_1 3 rfl rfl)
theorem q162 : (Jvm.Cond.initialized "java/util/HashMap$Node") ∈ lw_all := lw_g (lw_at lw_m1 43 rfl) rfl
theorem q874 : (Jvm.Cond.selects "java/util/HashMap$Node" ({ cls := "java/lang/Object", name := "getClass", desc := "()Ljava/lang/Class;" } : Jvm.MethodName) ({ cls := "java/lang/Object", name := "getClass", desc := "()Ljava/lang/Class;" } : Jvm.MethodName)) ∈ lw_all := lw_g (lw_at lw_m4 35 rfl) rfl
theorem q2083 : (Jvm.Cond.instantiable "java/util/HashMap$Node" (4 : Nat)) ∈ lw_all := lw_g (lw_at lw_m9 44 rfl) rfl
theorem q2085 : (Jvm.Cond.instanceMethod ({ cls := "java/util/HashMap$Node", name := "<init>", desc := "(ILjava/lang/Object;Ljava/lang/Object;Ljava/util/HashMap$Node;)V" } : Jvm.MethodName)) ∈ lw_all := lw_g (lw_at lw_m9 46 rfl) rfl
theorem q2086 : (Jvm.Cond.code ({ cls := "java/util/HashMap$Node", name := "<init>", desc := "(ILjava/lang/Object;Ljava/lang/Object;Ljava/util/HashMap$Node;)V" } : Jvm.MethodName) prog_62_method_1_code (5 : Nat) (Option.none : Option Jvm.ClassFile.FieldType)) ∈ lw_all := lw_g (lw_at lw_m9 47 rfl) rfl
theorem q2087 : (Jvm.Cond.methodLink "java/util/HashMap$Node" (1 : Nat) ({ cls := "java/lang/Object", name := "<init>", desc := "()V" } : Jvm.MethodName)) ∈ lw_all := lw_g (lw_at lw_m9 48 rfl) rfl
theorem q2088 : (Jvm.Cond.fieldLink "java/util/HashMap$Node" (7 : Nat) "java/util/HashMap$Node" "hash" "I") ∈ lw_all := lw_g (lw_at lw_m9 49 rfl) rfl
theorem q2092 : (Jvm.Cond.fieldLink "java/util/HashMap$Node" (13 : Nat) "java/util/HashMap$Node" "key" "Ljava/lang/Object;") ∈ lw_all := lw_g (lw_at lw_m9 53 rfl) rfl
theorem q2097 : (Jvm.Cond.fieldLink "java/util/HashMap$Node" (17 : Nat) "java/util/HashMap$Node" "value" "Ljava/lang/Object;") ∈ lw_all := lw_g (lw_at lw_m9 58 rfl) rfl
theorem q2099 : (Jvm.Cond.fieldLink "java/util/HashMap$Node" (20 : Nat) "java/util/HashMap$Node" "next" "Ljava/util/HashMap$Node;") ∈ lw_all := lw_g (lw_at lw_m9 60 rfl) rfl
theorem q2106 : (Jvm.Cond.laysFinal "java/util/HashMap$Node" "java/util/HashMap$Node" "hash" "I") ∈ lw_all := lw_g (lw_at lw_m9 67 rfl) rfl
theorem q2107 : (Jvm.Cond.soleField "java/util/HashMap$Node" "hash") ∈ lw_all := lw_g (lw_at lw_m9 68 rfl) rfl
theorem q2108 : (Jvm.Cond.laysFinal "java/util/HashMap$Node" "java/util/HashMap$Node" "key" "Ljava/lang/Object;") ∈ lw_all := lw_g (lw_at lw_m9 69 rfl) rfl
theorem q2109 : (Jvm.Cond.soleField "java/util/HashMap$Node" "key") ∈ lw_all := lw_g (lw_at lw_m9 70 rfl) rfl
theorem q2110 : (Jvm.Cond.lays "java/util/HashMap$Node" "java/util/HashMap$Node" "value" "Ljava/lang/Object;") ∈ lw_all := lw_g (lw_at lw_m9 71 rfl) rfl
theorem q2111 : (Jvm.Cond.soleField "java/util/HashMap$Node" "value") ∈ lw_all := lw_g (lw_at lw_m9 72 rfl) rfl
theorem q2112 : (Jvm.Cond.lays "java/util/HashMap$Node" "java/util/HashMap$Node" "next" "Ljava/util/HashMap$Node;") ∈ lw_all := lw_g (lw_at lw_m9 73 rfl) rfl
theorem q2113 : (Jvm.Cond.soleField "java/util/HashMap$Node" "next") ∈ lw_all := lw_g (lw_at lw_m9 74 rfl) rfl
theorem q2114 : (Jvm.Cond.superclass "java/util/HashMap$Node" "java/lang/Object") ∈ lw_all := lw_g (lw_at lw_m9 75 rfl) rfl
theorem q3793 : (Jvm.Cond.castable "java/util/HashMap$Node" "java/lang/Object") ∈ lw_tbl := lw_at lw_m16 74 rfl
theorem in_J35 : ∀ w ∈ wsJ350, w ∈ lw_all := lw_in wsJ350 [2106, 2108, 2110, 2112] (by decide +kernel) (by decide +kernel)

/-! java/util/AbstractQueue -/
set_option maxRecDepth 100000
def RJ40 : String := "java/util/AbstractQueue"
abbrev cJ40_init : ByteArray := prog_50_method_1_code
def yJ40_init : MethodName := ⟨RJ40, "<init>", "()V"⟩
theorem dJ40_init_0 : decode cJ40_init 0 = .ok (.aload_n 0, 1) := by decide +kernel
theorem dJ40_init_1 : decode cJ40_init 1 = .ok (.invokespecial 1, 3) := by decide +kernel
theorem dJ40_init_4 : decode cJ40_init 4 = .ok (.return_, 1) := by decide +kernel
theorem q168 : (Jvm.Cond.initialized "java/util/AbstractQueue") ∈ lw_all := lw_g (lw_at lw_m1 49 rfl) rfl
theorem q1707 : (Jvm.Cond.instanceMethod ({ cls := "java/util/AbstractQueue", name := "<init>", desc := "()V" } : Jvm.MethodName)) ∈ lw_all := lw_g (lw_at lw_m7 148 rfl) rfl
theorem q1708 : (Jvm.Cond.code ({ cls := "java/util/AbstractQueue", name := "<init>", desc := "()V" } : Jvm.MethodName) prog_50_method_1_code (1 : Nat) (Option.none : Option Jvm.ClassFile.FieldType)) ∈ lw_all := lw_g (lw_at lw_m7 149 rfl) rfl
theorem q1709 : (Jvm.Cond.methodLink "java/util/AbstractQueue" (1 : Nat) ({ cls := "java/util/AbstractCollection", name := "<init>", desc := "()V" } : Jvm.MethodName)) ∈ lw_all := lw_g (lw_at lw_m7 150 rfl) rfl

/-! java/util/PriorityQueue -/
set_option maxRecDepth 100000
def RJ41 : String := "java/util/PriorityQueue"
def TJ41 : u_T := fun k => match k with
  | 0 => ("java/util/PriorityQueue", "queue", "[Ljava/lang/Object;", false)
  | 1 => ("java/util/PriorityQueue", "size", "I", false)
  | 2 => ("java/util/PriorityQueue", "comparator", "Ljava/util/Comparator;", true)
  | _ => ("java/util/PriorityQueue", "modCount", "I", false)
def tyJ41 : Nat → FieldType := fun k => match k with
  | 0 => .array (.object "java/lang/Object")
  | 1 => .int
  | 2 => .object "java/util/Comparator"
  | _ => .int
abbrev wsJ410 : List Cond := u_ws RJ41 TJ41 4
theorem nmJ41 : ∀ a, a < 4 → ∀ b, b < 4 → a ≠ b → (TJ41 a).2.1 ≠ (TJ41 b).2.1 := by decide +kernel
theorem tyJ41_ok : ∀ k, k < 4 → parseFieldDescriptor (TJ41 k).2.2.1 = some (tyJ41 k) := by decide +kernel
abbrev cJ41_init : ByteArray := prog_73_method_3_code
def yJ41_init : MethodName := ⟨RJ41, "<init>", "(Ljava/util/Comparator;)V"⟩
def dkwJ41_init_0 : List UInt8 := [42, 16, 11, 43, 183, 0, 3, 177]
abbrev dktJ41_init_0 : List UInt8 := dkwJ41_init_0 ++ []
theorem dksJ41_init_0 : cJ41_init.data.toList.drop 0 = dktJ41_init_0 := by decide +kernel
theorem dJ41_init_0 : decode cJ41_init 0 = .ok (.aload_n 0, 1) := dk_42 (dk_at dksJ41_init_0 0 rfl rfl)
theorem dJ41_init_1 : decode cJ41_init 1 = .ok (.bipush 11, 2) := dk_16 11 (dk_at dksJ41_init_0 1 rfl rfl)
theorem dJ41_init_3 : decode cJ41_init 3 = .ok (.aload_n 1, 1) := dk_43 (dk_at dksJ41_init_0 3 rfl rfl)
theorem dJ41_init_4 : decode cJ41_init 4 = .ok (.invokespecial 3, 3) := dk_183 0 3 (dk_at dksJ41_init_0 4 rfl rfl)
theorem dJ41_init_7 : decode cJ41_init 7 = .ok (.return_, 1) := dk_177 (dk_at dksJ41_init_0 7 rfl rfl)
abbrev cJ41_init_2 : ByteArray := prog_73_method_4_code
def yJ41_init_2 : MethodName := ⟨RJ41, "<init>", "(ILjava/util/Comparator;)V"⟩
def dkwJ41_init_2_1 : List UInt8 := [181, 0, 17, 42, 44, 181, 0, 21, 177]
abbrev dktJ41_init_2_1 : List UInt8 := dkwJ41_init_2_1 ++ []
def dkwJ41_init_2_0 : List UInt8 := [42, 183, 0, 7, 27, 4, 162, 0, 11, 187, 0, 12, 89, 183, 0, 14, 191, 42, 27, 189, 0, 15]
abbrev dktJ41_init_2_0 : List UInt8 := dkwJ41_init_2_0 ++ dktJ41_init_2_1
theorem dksJ41_init_2_0 : cJ41_init_2.data.toList.drop 0 = dktJ41_init_2_0 := by decide +kernel
theorem dksJ41_init_2_1 : cJ41_init_2.data.toList.drop 22 = dktJ41_init_2_1 := dk_seg dksJ41_init_2_0 22 rfl rfl
theorem dJ41_init_2_0 : decode cJ41_init_2 0 = .ok (.aload_n 0, 1) := dk_42 (dk_at dksJ41_init_2_0 0 rfl rfl)
theorem dJ41_init_2_1 : decode cJ41_init_2 1 = .ok (.invokespecial 7, 3) := dk_183 0 7 (dk_at dksJ41_init_2_0 1 rfl rfl)
theorem dJ41_init_2_4 : decode cJ41_init_2 4 = .ok (.iload_n 1, 1) := dk_27 (dk_at dksJ41_init_2_0 4 rfl rfl)
theorem dJ41_init_2_5 : decode cJ41_init_2 5 = .ok (.iconst 1, 1) := dk_4 (dk_at dksJ41_init_2_0 5 rfl rfl)
theorem dJ41_init_2_6 : decode cJ41_init_2 6 = .ok (.if_icmp .ge 11, 3) := dk_162 0 11 (dk_at dksJ41_init_2_0 6 rfl rfl)
theorem dJ41_init_2_9 : decode cJ41_init_2 9 = .ok (.new 12, 3) := dk_187 0 12 (dk_at dksJ41_init_2_0 9 rfl rfl)
theorem dJ41_init_2_12 : decode cJ41_init_2 12 = .ok (.dup, 1) := dk_89 (dk_at dksJ41_init_2_0 12 rfl rfl)
theorem dJ41_init_2_13 : decode cJ41_init_2 13 = .ok (.invokespecial 14, 3) := dk_183 0 14 (dk_at dksJ41_init_2_0 13 rfl rfl)
theorem dJ41_init_2_16 : decode cJ41_init_2 16 = .ok (.athrow, 1) := dk_191 (dk_at dksJ41_init_2_0 16 rfl rfl)
theorem dJ41_init_2_17 : decode cJ41_init_2 17 = .ok (.aload_n 0, 1) := dk_42 (dk_at dksJ41_init_2_0 17 rfl rfl)
theorem dJ41_init_2_18 : decode cJ41_init_2 18 = .ok (.iload_n 1, 1) := dk_27 (dk_at dksJ41_init_2_0 18 rfl rfl)
theorem dJ41_init_2_19 : decode cJ41_init_2 19 = .ok (.anewarray 15, 3) := dk_189 0 15 (dk_at dksJ41_init_2_0 19 rfl rfl)
theorem dJ41_init_2_22 : decode cJ41_init_2 22 = .ok (.putfield 17, 3) := dk_181 0 17 (dk_at dksJ41_init_2_1 0 rfl rfl)
theorem dJ41_init_2_25 : decode cJ41_init_2 25 = .ok (.aload_n 0, 1) := dk_42 (dk_at dksJ41_init_2_1 3 rfl rfl)
theorem dJ41_init_2_26 : decode cJ41_init_2 26 = .ok (.aload_n 2, 1) := dk_44 (dk_at dksJ41_init_2_1 4 rfl rfl)
theorem dJ41_init_2_27 : decode cJ41_init_2 27 = .ok (.putfield 21, 3) := dk_181 0 21 (dk_at dksJ41_init_2_1 5 rfl rfl)
theorem dJ41_init_2_30 : decode cJ41_init_2 30 = .ok (.return_, 1) := dk_177 (dk_at dksJ41_init_2_1 8 rfl rfl)
abbrev cJ41_add : ByteArray := prog_73_method_13_code
def yJ41_add : MethodName := ⟨RJ41, "add", "(Ljava/lang/Object;)Z"⟩
def dkwJ41_add_0 : List UInt8 := [42, 43, 182, 0, 89, 172]
abbrev dktJ41_add_0 : List UInt8 := dkwJ41_add_0 ++ []
theorem dksJ41_add_0 : cJ41_add.data.toList.drop 0 = dktJ41_add_0 := by decide +kernel
theorem dJ41_add_0 : decode cJ41_add 0 = .ok (.aload_n 0, 1) := dk_42 (dk_at dksJ41_add_0 0 rfl rfl)
theorem dJ41_add_1 : decode cJ41_add 1 = .ok (.aload_n 1, 1) := dk_43 (dk_at dksJ41_add_0 1 rfl rfl)
theorem dJ41_add_2 : decode cJ41_add 2 = .ok (.invokevirtual 89, 3) := dk_182 0 89 (dk_at dksJ41_add_0 2 rfl rfl)
theorem dJ41_add_5 : decode cJ41_add 5 = .ok (.ireturn, 1) := dk_172 (dk_at dksJ41_add_0 5 rfl rfl)
abbrev cJ41_offer : ByteArray := prog_73_method_14_code
def yJ41_offer : MethodName := ⟨RJ41, "offer", "(Ljava/lang/Object;)Z"⟩
def dkwJ41_offer_2 : List UInt8 := [182, 0, 100, 42, 28, 4, 96, 181, 0, 58, 4, 172]
abbrev dktJ41_offer_2 : List UInt8 := dkwJ41_offer_2 ++ []
def dkwJ41_offer_1 : List UInt8 := [180, 0, 58, 61, 28, 42, 180, 0, 17, 190, 161, 0, 10, 42, 28, 4, 96, 182, 0, 96, 42, 28, 43]
abbrev dktJ41_offer_1 : List UInt8 := dkwJ41_offer_1 ++ dktJ41_offer_2
def dkwJ41_offer_0 : List UInt8 := [43, 199, 0, 11, 187, 0, 74, 89, 183, 0, 76, 191, 42, 89, 180, 0, 93, 4, 96, 181, 0, 93, 42]
abbrev dktJ41_offer_0 : List UInt8 := dkwJ41_offer_0 ++ dktJ41_offer_1
theorem dksJ41_offer_0 : cJ41_offer.data.toList.drop 0 = dktJ41_offer_0 := by decide +kernel
theorem dksJ41_offer_1 : cJ41_offer.data.toList.drop 23 = dktJ41_offer_1 := dk_seg dksJ41_offer_0 23 rfl rfl
theorem dksJ41_offer_2 : cJ41_offer.data.toList.drop 46 = dktJ41_offer_2 := dk_seg dksJ41_offer_1 23 rfl rfl
theorem dJ41_offer_0 : decode cJ41_offer 0 = .ok (.aload_n 1, 1) := dk_43 (dk_at dksJ41_offer_0 0 rfl rfl)
theorem dJ41_offer_1 : decode cJ41_offer 1 = .ok (.ifnonnull 11, 3) := dk_199 0 11 (dk_at dksJ41_offer_0 1 rfl rfl)
theorem dJ41_offer_4 : decode cJ41_offer 4 = .ok (.new 74, 3) := dk_187 0 74 (dk_at dksJ41_offer_0 4 rfl rfl)
theorem dJ41_offer_7 : decode cJ41_offer 7 = .ok (.dup, 1) := dk_89 (dk_at dksJ41_offer_0 7 rfl rfl)
theorem dJ41_offer_8 : decode cJ41_offer 8 = .ok (.invokespecial 76, 3) := dk_183 0 76 (dk_at dksJ41_offer_0 8 rfl rfl)
theorem dJ41_offer_11 : decode cJ41_offer 11 = .ok (.athrow, 1) := dk_191 (dk_at dksJ41_offer_0 11 rfl rfl)
theorem dJ41_offer_12 : decode cJ41_offer 12 = .ok (.aload_n 0, 1) := dk_42 (dk_at dksJ41_offer_0 12 rfl rfl)
theorem dJ41_offer_13 : decode cJ41_offer 13 = .ok (.dup, 1) := dk_89 (dk_at dksJ41_offer_0 13 rfl rfl)
theorem dJ41_offer_14 : decode cJ41_offer 14 = .ok (.getfield 93, 3) := dk_180 0 93 (dk_at dksJ41_offer_0 14 rfl rfl)
theorem dJ41_offer_17 : decode cJ41_offer 17 = .ok (.iconst 1, 1) := dk_4 (dk_at dksJ41_offer_0 17 rfl rfl)
theorem dJ41_offer_18 : decode cJ41_offer 18 = .ok (.iadd, 1) := dk_96 (dk_at dksJ41_offer_0 18 rfl rfl)
theorem dJ41_offer_19 : decode cJ41_offer 19 = .ok (.putfield 93, 3) := dk_181 0 93 (dk_at dksJ41_offer_0 19 rfl rfl)
theorem dJ41_offer_22 : decode cJ41_offer 22 = .ok (.aload_n 0, 1) := dk_42 (dk_at dksJ41_offer_0 22 rfl rfl)
theorem dJ41_offer_23 : decode cJ41_offer 23 = .ok (.getfield 58, 3) := dk_180 0 58 (dk_at dksJ41_offer_1 0 rfl rfl)
theorem dJ41_offer_26 : decode cJ41_offer 26 = .ok (.istore_n 2, 1) := dk_61 (dk_at dksJ41_offer_1 3 rfl rfl)
theorem dJ41_offer_27 : decode cJ41_offer 27 = .ok (.iload_n 2, 1) := dk_28 (dk_at dksJ41_offer_1 4 rfl rfl)
theorem dJ41_offer_28 : decode cJ41_offer 28 = .ok (.aload_n 0, 1) := dk_42 (dk_at dksJ41_offer_1 5 rfl rfl)
theorem dJ41_offer_29 : decode cJ41_offer 29 = .ok (.getfield 17, 3) := dk_180 0 17 (dk_at dksJ41_offer_1 6 rfl rfl)
theorem dJ41_offer_32 : decode cJ41_offer 32 = .ok (.arraylength, 1) := dk_190 (dk_at dksJ41_offer_1 9 rfl rfl)
theorem dJ41_offer_33 : decode cJ41_offer 33 = .ok (.if_icmp .lt 10, 3) := dk_161 0 10 (dk_at dksJ41_offer_1 10 rfl rfl)
theorem dJ41_offer_36 : decode cJ41_offer 36 = .ok (.aload_n 0, 1) := dk_42 (dk_at dksJ41_offer_1 13 rfl rfl)
theorem dJ41_offer_37 : decode cJ41_offer 37 = .ok (.iload_n 2, 1) := dk_28 (dk_at dksJ41_offer_1 14 rfl rfl)
theorem dJ41_offer_38 : decode cJ41_offer 38 = .ok (.iconst 1, 1) := dk_4 (dk_at dksJ41_offer_1 15 rfl rfl)
theorem dJ41_offer_39 : decode cJ41_offer 39 = .ok (.iadd, 1) := dk_96 (dk_at dksJ41_offer_1 16 rfl rfl)
theorem dJ41_offer_40 : decode cJ41_offer 40 = .ok (.invokevirtual 96, 3) := dk_182 0 96 (dk_at dksJ41_offer_1 17 rfl rfl)
theorem dJ41_offer_43 : decode cJ41_offer 43 = .ok (.aload_n 0, 1) := dk_42 (dk_at dksJ41_offer_1 20 rfl rfl)
theorem dJ41_offer_44 : decode cJ41_offer 44 = .ok (.iload_n 2, 1) := dk_28 (dk_at dksJ41_offer_1 21 rfl rfl)
theorem dJ41_offer_45 : decode cJ41_offer 45 = .ok (.aload_n 1, 1) := dk_43 (dk_at dksJ41_offer_1 22 rfl rfl)
theorem dJ41_offer_46 : decode cJ41_offer 46 = .ok (.invokevirtual 100, 3) := dk_182 0 100 (dk_at dksJ41_offer_2 0 rfl rfl)
theorem dJ41_offer_49 : decode cJ41_offer 49 = .ok (.aload_n 0, 1) := dk_42 (dk_at dksJ41_offer_2 3 rfl rfl)
theorem dJ41_offer_50 : decode cJ41_offer 50 = .ok (.iload_n 2, 1) := dk_28 (dk_at dksJ41_offer_2 4 rfl rfl)
theorem dJ41_offer_51 : decode cJ41_offer 51 = .ok (.iconst 1, 1) := dk_4 (dk_at dksJ41_offer_2 5 rfl rfl)
theorem dJ41_offer_52 : decode cJ41_offer 52 = .ok (.iadd, 1) := dk_96 (dk_at dksJ41_offer_2 6 rfl rfl)
theorem dJ41_offer_53 : decode cJ41_offer 53 = .ok (.putfield 58, 3) := dk_181 0 58 (dk_at dksJ41_offer_2 7 rfl rfl)
theorem dJ41_offer_56 : decode cJ41_offer 56 = .ok (.iconst 1, 1) := dk_4 (dk_at dksJ41_offer_2 10 rfl rfl)
theorem dJ41_offer_57 : decode cJ41_offer 57 = .ok (.ireturn, 1) := dk_172 (dk_at dksJ41_offer_2 11 rfl rfl)
abbrev cJ41_grow : ByteArray := prog_73_method_12_code
def yJ41_grow : MethodName := ⟨RJ41, "grow", "(I)V"⟩
def dkwJ41_grow_1 : List UInt8 := [122, 184, 0, 80, 62, 42, 42, 180, 0, 17, 29, 184, 0, 86, 181, 0, 17, 177]
abbrev dktJ41_grow_1 : List UInt8 := dkwJ41_grow_1 ++ []
def dkwJ41_grow_0 : List UInt8 := [42, 180, 0, 17, 190, 61, 28, 27, 28, 100, 28, 16, 64, 162, 0, 9, 28, 5, 96, 167, 0, 6, 28, 4]
abbrev dktJ41_grow_0 : List UInt8 := dkwJ41_grow_0 ++ dktJ41_grow_1
theorem dksJ41_grow_0 : cJ41_grow.data.toList.drop 0 = dktJ41_grow_0 := by decide +kernel
theorem dksJ41_grow_1 : cJ41_grow.data.toList.drop 24 = dktJ41_grow_1 := dk_seg dksJ41_grow_0 24 rfl rfl
theorem dJ41_grow_0 : decode cJ41_grow 0 = .ok (.aload_n 0, 1) := dk_42 (dk_at dksJ41_grow_0 0 rfl rfl)
theorem dJ41_grow_1 : decode cJ41_grow 1 = .ok (.getfield 17, 3) := dk_180 0 17 (dk_at dksJ41_grow_0 1 rfl rfl)
theorem dJ41_grow_4 : decode cJ41_grow 4 = .ok (.arraylength, 1) := dk_190 (dk_at dksJ41_grow_0 4 rfl rfl)
theorem dJ41_grow_5 : decode cJ41_grow 5 = .ok (.istore_n 2, 1) := dk_61 (dk_at dksJ41_grow_0 5 rfl rfl)
theorem dJ41_grow_6 : decode cJ41_grow 6 = .ok (.iload_n 2, 1) := dk_28 (dk_at dksJ41_grow_0 6 rfl rfl)
theorem dJ41_grow_7 : decode cJ41_grow 7 = .ok (.iload_n 1, 1) := dk_27 (dk_at dksJ41_grow_0 7 rfl rfl)
theorem dJ41_grow_8 : decode cJ41_grow 8 = .ok (.iload_n 2, 1) := dk_28 (dk_at dksJ41_grow_0 8 rfl rfl)
theorem dJ41_grow_9 : decode cJ41_grow 9 = .ok (.isub, 1) := dk_100 (dk_at dksJ41_grow_0 9 rfl rfl)
theorem dJ41_grow_10 : decode cJ41_grow 10 = .ok (.iload_n 2, 1) := dk_28 (dk_at dksJ41_grow_0 10 rfl rfl)
theorem dJ41_grow_11 : decode cJ41_grow 11 = .ok (.bipush 64, 2) := dk_16 64 (dk_at dksJ41_grow_0 11 rfl rfl)
theorem dJ41_grow_13 : decode cJ41_grow 13 = .ok (.if_icmp .ge 9, 3) := dk_162 0 9 (dk_at dksJ41_grow_0 13 rfl rfl)
theorem dJ41_grow_16 : decode cJ41_grow 16 = .ok (.iload_n 2, 1) := dk_28 (dk_at dksJ41_grow_0 16 rfl rfl)
theorem dJ41_grow_17 : decode cJ41_grow 17 = .ok (.iconst 2, 1) := dk_5 (dk_at dksJ41_grow_0 17 rfl rfl)
theorem dJ41_grow_18 : decode cJ41_grow 18 = .ok (.iadd, 1) := dk_96 (dk_at dksJ41_grow_0 18 rfl rfl)
theorem dJ41_grow_19 : decode cJ41_grow 19 = .ok (.goto 6, 3) := dk_167 0 6 (dk_at dksJ41_grow_0 19 rfl rfl)
theorem dJ41_grow_22 : decode cJ41_grow 22 = .ok (.iload_n 2, 1) := dk_28 (dk_at dksJ41_grow_0 22 rfl rfl)
theorem dJ41_grow_23 : decode cJ41_grow 23 = .ok (.iconst 1, 1) := dk_4 (dk_at dksJ41_grow_0 23 rfl rfl)
theorem dJ41_grow_24 : decode cJ41_grow 24 = .ok (.ishr, 1) := dk_122 (dk_at dksJ41_grow_1 0 rfl rfl)
theorem dJ41_grow_25 : decode cJ41_grow 25 = .ok (.invokestatic 80, 3) := dk_184 0 80 (dk_at dksJ41_grow_1 1 rfl rfl)
theorem dJ41_grow_28 : decode cJ41_grow 28 = .ok (.istore_n 3, 1) := dk_62 (dk_at dksJ41_grow_1 4 rfl rfl)
theorem dJ41_grow_29 : decode cJ41_grow 29 = .ok (.aload_n 0, 1) := dk_42 (dk_at dksJ41_grow_1 5 rfl rfl)
theorem dJ41_grow_30 : decode cJ41_grow 30 = .ok (.aload_n 0, 1) := dk_42 (dk_at dksJ41_grow_1 6 rfl rfl)
theorem dJ41_grow_31 : decode cJ41_grow 31 = .ok (.getfield 17, 3) := dk_180 0 17 (dk_at dksJ41_grow_1 7 rfl rfl)
theorem dJ41_grow_34 : decode cJ41_grow 34 = .ok (.iload_n 3, 1) := dk_29 (dk_at dksJ41_grow_1 10 rfl rfl)
theorem dJ41_grow_35 : decode cJ41_grow 35 = .ok (.invokestatic 86, 3) := dk_184 0 86 (dk_at dksJ41_grow_1 11 rfl rfl)
theorem dJ41_grow_38 : decode cJ41_grow 38 = .ok (.putfield 17, 3) := dk_181 0 17 (dk_at dksJ41_grow_1 14 rfl rfl)
theorem dJ41_grow_41 : decode cJ41_grow 41 = .ok (.return_, 1) := dk_177 (dk_at dksJ41_grow_1 17 rfl rfl)
abbrev cJ41_siftUp : ByteArray := prog_73_method_27_code
def yJ41_siftUp : MethodName := ⟨RJ41, "siftUp", "(ILjava/lang/Object;)V"⟩
def dkwJ41_siftUp_1 : List UInt8 := [44, 42, 180, 0, 17, 184, 0, 140, 177]
abbrev dktJ41_siftUp_1 : List UInt8 := dkwJ41_siftUp_1 ++ []
def dkwJ41_siftUp_0 : List UInt8 := [42, 180, 0, 21, 198, 0, 19, 27, 44, 42, 180, 0, 17, 42, 180, 0, 21, 184, 0, 136, 167, 0, 12, 27]
abbrev dktJ41_siftUp_0 : List UInt8 := dkwJ41_siftUp_0 ++ dktJ41_siftUp_1
theorem dksJ41_siftUp_0 : cJ41_siftUp.data.toList.drop 0 = dktJ41_siftUp_0 := by decide +kernel
theorem dksJ41_siftUp_1 : cJ41_siftUp.data.toList.drop 24 = dktJ41_siftUp_1 := dk_seg dksJ41_siftUp_0 24 rfl rfl
theorem dJ41_siftUp_0 : decode cJ41_siftUp 0 = .ok (.aload_n 0, 1) := dk_42 (dk_at dksJ41_siftUp_0 0 rfl rfl)
theorem dJ41_siftUp_1 : decode cJ41_siftUp 1 = .ok (.getfield 21, 3) := dk_180 0 21 (dk_at dksJ41_siftUp_0 1 rfl rfl)
theorem dJ41_siftUp_4 : decode cJ41_siftUp 4 = .ok (.ifnull 19, 3) := dk_198 0 19 (dk_at dksJ41_siftUp_0 4 rfl rfl)
theorem dJ41_siftUp_7 : decode cJ41_siftUp 7 = .ok (.iload_n 1, 1) := dk_27 (dk_at dksJ41_siftUp_0 7 rfl rfl)
theorem dJ41_siftUp_8 : decode cJ41_siftUp 8 = .ok (.aload_n 2, 1) := dk_44 (dk_at dksJ41_siftUp_0 8 rfl rfl)
theorem dJ41_siftUp_9 : decode cJ41_siftUp 9 = .ok (.aload_n 0, 1) := dk_42 (dk_at dksJ41_siftUp_0 9 rfl rfl)
theorem dJ41_siftUp_10 : decode cJ41_siftUp 10 = .ok (.getfield 17, 3) := dk_180 0 17 (dk_at dksJ41_siftUp_0 10 rfl rfl)
theorem dJ41_siftUp_13 : decode cJ41_siftUp 13 = .ok (.aload_n 0, 1) := dk_42 (dk_at dksJ41_siftUp_0 13 rfl rfl)
theorem dJ41_siftUp_14 : decode cJ41_siftUp 14 = .ok (.getfield 21, 3) := dk_180 0 21 (dk_at dksJ41_siftUp_0 14 rfl rfl)
theorem dJ41_siftUp_17 : decode cJ41_siftUp 17 = .ok (.invokestatic 136, 3) := dk_184 0 136 (dk_at dksJ41_siftUp_0 17 rfl rfl)
theorem dJ41_siftUp_20 : decode cJ41_siftUp 20 = .ok (.goto 12, 3) := dk_167 0 12 (dk_at dksJ41_siftUp_0 20 rfl rfl)
theorem dJ41_siftUp_23 : decode cJ41_siftUp 23 = .ok (.iload_n 1, 1) := dk_27 (dk_at dksJ41_siftUp_0 23 rfl rfl)
theorem dJ41_siftUp_24 : decode cJ41_siftUp 24 = .ok (.aload_n 2, 1) := dk_44 (dk_at dksJ41_siftUp_1 0 rfl rfl)
theorem dJ41_siftUp_25 : decode cJ41_siftUp 25 = .ok (.aload_n 0, 1) := dk_42 (dk_at dksJ41_siftUp_1 1 rfl rfl)
theorem dJ41_siftUp_26 : decode cJ41_siftUp 26 = .ok (.getfield 17, 3) := dk_180 0 17 (dk_at dksJ41_siftUp_1 2 rfl rfl)
theorem dJ41_siftUp_29 : decode cJ41_siftUp 29 = .ok (.invokestatic 140, 3) := dk_184 0 140 (dk_at dksJ41_siftUp_1 5 rfl rfl)
theorem dJ41_siftUp_32 : decode cJ41_siftUp 32 = .ok (.return_, 1) := dk_177 (dk_at dksJ41_siftUp_1 8 rfl rfl)
abbrev cJ41_siftUpUsingComparator : ByteArray := prog_73_method_29_code
def yJ41_siftUpUsingComparator : MethodName := ⟨RJ41, "siftUpUsingComparator", "(ILjava/lang/Object;[Ljava/lang/Object;Ljava/util/Comparator;)V"⟩
def dkwJ41_siftUpUsingComparator_2 : List UInt8 := [43, 83, 177]
abbrev dktJ41_siftUpUsingComparator_2 : List UInt8 := dkwJ41_siftUpUsingComparator_2 ++ []
def dkwJ41_siftUpUsingComparator_1 : List UInt8 := [185, 0, 149, 3, 0, 155, 0, 6, 167, 0, 14, 44, 26, 25, 5, 83, 21, 4, 59, 167, 255, 216, 44, 26]
abbrev dktJ41_siftUpUsingComparator_1 : List UInt8 := dkwJ41_siftUpUsingComparator_1 ++ dktJ41_siftUpUsingComparator_2
def dkwJ41_siftUpUsingComparator_0 : List UInt8 := [26, 158, 0, 42, 26, 4, 100, 4, 124, 54, 4, 44, 21, 4, 50, 58, 5, 45, 43, 25, 5]
abbrev dktJ41_siftUpUsingComparator_0 : List UInt8 := dkwJ41_siftUpUsingComparator_0 ++ dktJ41_siftUpUsingComparator_1
theorem dksJ41_siftUpUsingComparator_0 : cJ41_siftUpUsingComparator.data.toList.drop 0 = dktJ41_siftUpUsingComparator_0 := by decide +kernel
theorem dksJ41_siftUpUsingComparator_1 : cJ41_siftUpUsingComparator.data.toList.drop 21 = dktJ41_siftUpUsingComparator_1 := dk_seg dksJ41_siftUpUsingComparator_0 21 rfl rfl
theorem dksJ41_siftUpUsingComparator_2 : cJ41_siftUpUsingComparator.data.toList.drop 45 = dktJ41_siftUpUsingComparator_2 := dk_seg dksJ41_siftUpUsingComparator_1 24 rfl rfl
theorem dJ41_siftUpUsingComparator_0 : decode cJ41_siftUpUsingComparator 0 = .ok (.iload_n 0, 1) := dk_26 (dk_at dksJ41_siftUpUsingComparator_0 0 rfl rfl)
theorem dJ41_siftUpUsingComparator_1 : decode cJ41_siftUpUsingComparator 1 = .ok (.ifCond .le 42, 3) := dk_158 0 42 (dk_at dksJ41_siftUpUsingComparator_0 1 rfl rfl)
theorem dJ41_siftUpUsingComparator_4 : decode cJ41_siftUpUsingComparator 4 = .ok (.iload_n 0, 1) := dk_26 (dk_at dksJ41_siftUpUsingComparator_0 4 rfl rfl)
theorem dJ41_siftUpUsingComparator_5 : decode cJ41_siftUpUsingComparator 5 = .ok (.iconst 1, 1) := dk_4 (dk_at dksJ41_siftUpUsingComparator_0 5 rfl rfl)
theorem dJ41_siftUpUsingComparator_6 : decode cJ41_siftUpUsingComparator 6 = .ok (.isub, 1) := dk_100 (dk_at dksJ41_siftUpUsingComparator_0 6 rfl rfl)
theorem dJ41_siftUpUsingComparator_7 : decode cJ41_siftUpUsingComparator 7 = .ok (.iconst 1, 1) := dk_4 (dk_at dksJ41_siftUpUsingComparator_0 7 rfl rfl)
theorem dJ41_siftUpUsingComparator_8 : decode cJ41_siftUpUsingComparator 8 = .ok (.iushr, 1) := dk_124 (dk_at dksJ41_siftUpUsingComparator_0 8 rfl rfl)
theorem dJ41_siftUpUsingComparator_9 : decode cJ41_siftUpUsingComparator 9 = .ok (.istore 4, 2) := dk_54 4 (dk_at dksJ41_siftUpUsingComparator_0 9 rfl rfl)
theorem dJ41_siftUpUsingComparator_11 : decode cJ41_siftUpUsingComparator 11 = .ok (.aload_n 2, 1) := dk_44 (dk_at dksJ41_siftUpUsingComparator_0 11 rfl rfl)
theorem dJ41_siftUpUsingComparator_12 : decode cJ41_siftUpUsingComparator 12 = .ok (.iload 4, 2) := dk_21 4 (dk_at dksJ41_siftUpUsingComparator_0 12 rfl rfl)
theorem dJ41_siftUpUsingComparator_14 : decode cJ41_siftUpUsingComparator 14 = .ok (.aaload, 1) := dk_50 (dk_at dksJ41_siftUpUsingComparator_0 14 rfl rfl)
theorem dJ41_siftUpUsingComparator_15 : decode cJ41_siftUpUsingComparator 15 = .ok (.astore 5, 2) := dk_58 5 (dk_at dksJ41_siftUpUsingComparator_0 15 rfl rfl)
theorem dJ41_siftUpUsingComparator_17 : decode cJ41_siftUpUsingComparator 17 = .ok (.aload_n 3, 1) := dk_45 (dk_at dksJ41_siftUpUsingComparator_0 17 rfl rfl)
theorem dJ41_siftUpUsingComparator_18 : decode cJ41_siftUpUsingComparator 18 = .ok (.aload_n 1, 1) := dk_43 (dk_at dksJ41_siftUpUsingComparator_0 18 rfl rfl)
theorem dJ41_siftUpUsingComparator_19 : decode cJ41_siftUpUsingComparator 19 = .ok (.aload 5, 2) := dk_25 5 (dk_at dksJ41_siftUpUsingComparator_0 19 rfl rfl)
theorem dJ41_siftUpUsingComparator_21 : decode cJ41_siftUpUsingComparator 21 = .ok (.invokeinterface 149 3, 5) := by decide +kernel
theorem dJ41_siftUpUsingComparator_26 : decode cJ41_siftUpUsingComparator 26 = .ok (.ifCond .lt 6, 3) := dk_155 0 6 (dk_at dksJ41_siftUpUsingComparator_1 5 rfl rfl)
theorem dJ41_siftUpUsingComparator_29 : decode cJ41_siftUpUsingComparator 29 = .ok (.goto 14, 3) := dk_167 0 14 (dk_at dksJ41_siftUpUsingComparator_1 8 rfl rfl)
theorem dJ41_siftUpUsingComparator_32 : decode cJ41_siftUpUsingComparator 32 = .ok (.aload_n 2, 1) := dk_44 (dk_at dksJ41_siftUpUsingComparator_1 11 rfl rfl)
theorem dJ41_siftUpUsingComparator_33 : decode cJ41_siftUpUsingComparator 33 = .ok (.iload_n 0, 1) := dk_26 (dk_at dksJ41_siftUpUsingComparator_1 12 rfl rfl)
theorem dJ41_siftUpUsingComparator_34 : decode cJ41_siftUpUsingComparator 34 = .ok (.aload 5, 2) := dk_25 5 (dk_at dksJ41_siftUpUsingComparator_1 13 rfl rfl)
theorem dJ41_siftUpUsingComparator_36 : decode cJ41_siftUpUsingComparator 36 = .ok (.aastore, 1) := dk_83 (dk_at dksJ41_siftUpUsingComparator_1 15 rfl rfl)
theorem dJ41_siftUpUsingComparator_37 : decode cJ41_siftUpUsingComparator 37 = .ok (.iload 4, 2) := dk_21 4 (dk_at dksJ41_siftUpUsingComparator_1 16 rfl rfl)
theorem dJ41_siftUpUsingComparator_39 : decode cJ41_siftUpUsingComparator 39 = .ok (.istore_n 0, 1) := dk_59 (dk_at dksJ41_siftUpUsingComparator_1 18 rfl rfl)
theorem dJ41_siftUpUsingComparator_40 : decode cJ41_siftUpUsingComparator 40 = .ok (.goto (-40), 3) := dk_167 255 216 (dk_at dksJ41_siftUpUsingComparator_1 19 rfl rfl)
theorem dJ41_siftUpUsingComparator_43 : decode cJ41_siftUpUsingComparator 43 = .ok (.aload_n 2, 1) := dk_44 (dk_at dksJ41_siftUpUsingComparator_1 22 rfl rfl)
theorem dJ41_siftUpUsingComparator_44 : decode cJ41_siftUpUsingComparator 44 = .ok (.iload_n 0, 1) := dk_26 (dk_at dksJ41_siftUpUsingComparator_1 23 rfl rfl)
theorem dJ41_siftUpUsingComparator_45 : decode cJ41_siftUpUsingComparator 45 = .ok (.aload_n 1, 1) := dk_43 (dk_at dksJ41_siftUpUsingComparator_2 0 rfl rfl)
theorem dJ41_siftUpUsingComparator_46 : decode cJ41_siftUpUsingComparator 46 = .ok (.aastore, 1) := dk_83 (dk_at dksJ41_siftUpUsingComparator_2 1 rfl rfl)
theorem dJ41_siftUpUsingComparator_47 : decode cJ41_siftUpUsingComparator 47 = .ok (.return_, 1) := dk_177 (dk_at dksJ41_siftUpUsingComparator_2 2 rfl rfl)
abbrev cJ41_siftUpComparable : ByteArray := prog_73_method_28_code
def yJ41_siftUpComparable : MethodName := ⟨RJ41, "siftUpComparable", "(ILjava/lang/Object;[Ljava/lang/Object;)V"⟩
def dkwJ41_siftUpComparable_2 : List UInt8 := [44, 26, 45, 83, 177]
abbrev dktJ41_siftUpComparable_2 : List UInt8 := dkwJ41_siftUpComparable_2 ++ []
def dkwJ41_siftUpComparable_1 : List UInt8 := [25, 5, 185, 0, 146, 2, 0, 155, 0, 6, 167, 0, 14, 44, 26, 25, 5, 83, 21, 4, 59, 167, 255, 217]
abbrev dktJ41_siftUpComparable_1 : List UInt8 := dkwJ41_siftUpComparable_1 ++ dktJ41_siftUpComparable_2
def dkwJ41_siftUpComparable_0 : List UInt8 := [43, 192, 0, 144, 78, 26, 158, 0, 41, 26, 4, 100, 4, 124, 54, 4, 44, 21, 4, 50, 58, 5, 45]
abbrev dktJ41_siftUpComparable_0 : List UInt8 := dkwJ41_siftUpComparable_0 ++ dktJ41_siftUpComparable_1
theorem dksJ41_siftUpComparable_0 : cJ41_siftUpComparable.data.toList.drop 0 = dktJ41_siftUpComparable_0 := by decide +kernel
theorem dksJ41_siftUpComparable_1 : cJ41_siftUpComparable.data.toList.drop 23 = dktJ41_siftUpComparable_1 := dk_seg dksJ41_siftUpComparable_0 23 rfl rfl
theorem dksJ41_siftUpComparable_2 : cJ41_siftUpComparable.data.toList.drop 47 = dktJ41_siftUpComparable_2 := dk_seg dksJ41_siftUpComparable_1 24 rfl rfl
theorem dJ41_siftUpComparable_0 : decode cJ41_siftUpComparable 0 = .ok (.aload_n 1, 1) := dk_43 (dk_at dksJ41_siftUpComparable_0 0 rfl rfl)
theorem dJ41_siftUpComparable_1 : decode cJ41_siftUpComparable 1 = .ok (.checkcast 144, 3) := dk_192 0 144 (dk_at dksJ41_siftUpComparable_0 1 rfl rfl)
theorem dJ41_siftUpComparable_4 : decode cJ41_siftUpComparable 4 = .ok (.astore_n 3, 1) := dk_78 (dk_at dksJ41_siftUpComparable_0 4 rfl rfl)
theorem dJ41_siftUpComparable_5 : decode cJ41_siftUpComparable 5 = .ok (.iload_n 0, 1) := dk_26 (dk_at dksJ41_siftUpComparable_0 5 rfl rfl)
theorem dJ41_siftUpComparable_6 : decode cJ41_siftUpComparable 6 = .ok (.ifCond .le 41, 3) := dk_158 0 41 (dk_at dksJ41_siftUpComparable_0 6 rfl rfl)
theorem dJ41_siftUpComparable_9 : decode cJ41_siftUpComparable 9 = .ok (.iload_n 0, 1) := dk_26 (dk_at dksJ41_siftUpComparable_0 9 rfl rfl)
theorem dJ41_siftUpComparable_10 : decode cJ41_siftUpComparable 10 = .ok (.iconst 1, 1) := dk_4 (dk_at dksJ41_siftUpComparable_0 10 rfl rfl)
theorem dJ41_siftUpComparable_11 : decode cJ41_siftUpComparable 11 = .ok (.isub, 1) := dk_100 (dk_at dksJ41_siftUpComparable_0 11 rfl rfl)
theorem dJ41_siftUpComparable_12 : decode cJ41_siftUpComparable 12 = .ok (.iconst 1, 1) := dk_4 (dk_at dksJ41_siftUpComparable_0 12 rfl rfl)
theorem dJ41_siftUpComparable_13 : decode cJ41_siftUpComparable 13 = .ok (.iushr, 1) := dk_124 (dk_at dksJ41_siftUpComparable_0 13 rfl rfl)
theorem dJ41_siftUpComparable_14 : decode cJ41_siftUpComparable 14 = .ok (.istore 4, 2) := dk_54 4 (dk_at dksJ41_siftUpComparable_0 14 rfl rfl)
theorem dJ41_siftUpComparable_16 : decode cJ41_siftUpComparable 16 = .ok (.aload_n 2, 1) := dk_44 (dk_at dksJ41_siftUpComparable_0 16 rfl rfl)
theorem dJ41_siftUpComparable_17 : decode cJ41_siftUpComparable 17 = .ok (.iload 4, 2) := dk_21 4 (dk_at dksJ41_siftUpComparable_0 17 rfl rfl)
theorem dJ41_siftUpComparable_19 : decode cJ41_siftUpComparable 19 = .ok (.aaload, 1) := dk_50 (dk_at dksJ41_siftUpComparable_0 19 rfl rfl)
theorem dJ41_siftUpComparable_20 : decode cJ41_siftUpComparable 20 = .ok (.astore 5, 2) := dk_58 5 (dk_at dksJ41_siftUpComparable_0 20 rfl rfl)
theorem dJ41_siftUpComparable_22 : decode cJ41_siftUpComparable 22 = .ok (.aload_n 3, 1) := dk_45 (dk_at dksJ41_siftUpComparable_0 22 rfl rfl)
theorem dJ41_siftUpComparable_23 : decode cJ41_siftUpComparable 23 = .ok (.aload 5, 2) := dk_25 5 (dk_at dksJ41_siftUpComparable_1 0 rfl rfl)
theorem dJ41_siftUpComparable_25 : decode cJ41_siftUpComparable 25 = .ok (.invokeinterface 146 2, 5) := by decide +kernel
theorem dJ41_siftUpComparable_30 : decode cJ41_siftUpComparable 30 = .ok (.ifCond .lt 6, 3) := dk_155 0 6 (dk_at dksJ41_siftUpComparable_1 7 rfl rfl)
theorem dJ41_siftUpComparable_33 : decode cJ41_siftUpComparable 33 = .ok (.goto 14, 3) := dk_167 0 14 (dk_at dksJ41_siftUpComparable_1 10 rfl rfl)
theorem dJ41_siftUpComparable_36 : decode cJ41_siftUpComparable 36 = .ok (.aload_n 2, 1) := dk_44 (dk_at dksJ41_siftUpComparable_1 13 rfl rfl)
theorem dJ41_siftUpComparable_37 : decode cJ41_siftUpComparable 37 = .ok (.iload_n 0, 1) := dk_26 (dk_at dksJ41_siftUpComparable_1 14 rfl rfl)
theorem dJ41_siftUpComparable_38 : decode cJ41_siftUpComparable 38 = .ok (.aload 5, 2) := dk_25 5 (dk_at dksJ41_siftUpComparable_1 15 rfl rfl)
theorem dJ41_siftUpComparable_40 : decode cJ41_siftUpComparable 40 = .ok (.aastore, 1) := dk_83 (dk_at dksJ41_siftUpComparable_1 17 rfl rfl)
theorem dJ41_siftUpComparable_41 : decode cJ41_siftUpComparable 41 = .ok (.iload 4, 2) := dk_21 4 (dk_at dksJ41_siftUpComparable_1 18 rfl rfl)
theorem dJ41_siftUpComparable_43 : decode cJ41_siftUpComparable 43 = .ok (.istore_n 0, 1) := dk_59 (dk_at dksJ41_siftUpComparable_1 20 rfl rfl)
theorem dJ41_siftUpComparable_44 : decode cJ41_siftUpComparable 44 = .ok (.goto (-39), 3) := dk_167 255 217 (dk_at dksJ41_siftUpComparable_1 21 rfl rfl)
theorem dJ41_siftUpComparable_47 : decode cJ41_siftUpComparable 47 = .ok (.aload_n 2, 1) := dk_44 (dk_at dksJ41_siftUpComparable_2 0 rfl rfl)
theorem dJ41_siftUpComparable_48 : decode cJ41_siftUpComparable 48 = .ok (.iload_n 0, 1) := dk_26 (dk_at dksJ41_siftUpComparable_2 1 rfl rfl)
theorem dJ41_siftUpComparable_49 : decode cJ41_siftUpComparable 49 = .ok (.aload_n 3, 1) := dk_45 (dk_at dksJ41_siftUpComparable_2 2 rfl rfl)
theorem dJ41_siftUpComparable_50 : decode cJ41_siftUpComparable 50 = .ok (.aastore, 1) := dk_83 (dk_at dksJ41_siftUpComparable_2 3 rfl rfl)
theorem dJ41_siftUpComparable_51 : decode cJ41_siftUpComparable 51 = .ok (.return_, 1) := dk_177 (dk_at dksJ41_siftUpComparable_2 4 rfl rfl)
abbrev cJ41_size : ByteArray := prog_73_method_23_code
def yJ41_size : MethodName := ⟨RJ41, "size", "()I"⟩
theorem dJ41_size_0 : decode cJ41_size 0 = .ok (.aload_n 0, 1) := by decide +kernel
theorem dJ41_size_1 : decode cJ41_size 1 = .ok (.getfield 58, 3) := by decide +kernel
theorem dJ41_size_4 : decode cJ41_size 4 = .ok (.ireturn, 1) := by decide +kernel
abbrev cJ41_poll : ByteArray := prog_73_method_25_code
def yJ41_poll : MethodName := ⟨RJ41, "poll", "()Ljava/lang/Object;"⟩
def dkwJ41_poll_3 : List UInt8 := [43, 29, 25, 5, 184, 0, 129, 44, 176]
abbrev dktJ41_poll_3 : List UInt8 := dkwJ41_poll_3 ++ []
def dkwJ41_poll_2 : List UInt8 := [42, 180, 0, 21, 89, 58, 5, 199, 0, 14, 3, 25, 4, 43, 29, 184, 0, 125, 167, 0, 13, 3, 25, 4]
abbrev dktJ41_poll_2 : List UInt8 := dkwJ41_poll_2 ++ dktJ41_poll_3
def dkwJ41_poll_1 : List UInt8 := [42, 89, 180, 0, 58, 4, 100, 90, 181, 0, 58, 89, 62, 50, 58, 4, 43, 29, 1, 83, 29, 158, 0, 34]
abbrev dktJ41_poll_1 : List UInt8 := dkwJ41_poll_1 ++ dktJ41_poll_2
def dkwJ41_poll_0 : List UInt8 := [42, 180, 0, 17, 89, 76, 3, 50, 89, 77, 198, 0, 69, 42, 89, 180, 0, 93, 4, 96, 181, 0, 93, 43]
abbrev dktJ41_poll_0 : List UInt8 := dkwJ41_poll_0 ++ dktJ41_poll_1
theorem dksJ41_poll_0 : cJ41_poll.data.toList.drop 0 = dktJ41_poll_0 := by decide +kernel
theorem dksJ41_poll_1 : cJ41_poll.data.toList.drop 24 = dktJ41_poll_1 := dk_seg dksJ41_poll_0 24 rfl rfl
theorem dksJ41_poll_2 : cJ41_poll.data.toList.drop 48 = dktJ41_poll_2 := dk_seg dksJ41_poll_1 24 rfl rfl
theorem dksJ41_poll_3 : cJ41_poll.data.toList.drop 72 = dktJ41_poll_3 := dk_seg dksJ41_poll_2 24 rfl rfl
theorem dJ41_poll_0 : decode cJ41_poll 0 = .ok (.aload_n 0, 1) := dk_42 (dk_at dksJ41_poll_0 0 rfl rfl)
theorem dJ41_poll_1 : decode cJ41_poll 1 = .ok (.getfield 17, 3) := dk_180 0 17 (dk_at dksJ41_poll_0 1 rfl rfl)
theorem dJ41_poll_4 : decode cJ41_poll 4 = .ok (.dup, 1) := dk_89 (dk_at dksJ41_poll_0 4 rfl rfl)
theorem dJ41_poll_5 : decode cJ41_poll 5 = .ok (.astore_n 1, 1) := dk_76 (dk_at dksJ41_poll_0 5 rfl rfl)
theorem dJ41_poll_6 : decode cJ41_poll 6 = .ok (.iconst 0, 1) := dk_3 (dk_at dksJ41_poll_0 6 rfl rfl)
theorem dJ41_poll_7 : decode cJ41_poll 7 = .ok (.aaload, 1) := dk_50 (dk_at dksJ41_poll_0 7 rfl rfl)
theorem dJ41_poll_8 : decode cJ41_poll 8 = .ok (.dup, 1) := dk_89 (dk_at dksJ41_poll_0 8 rfl rfl)
theorem dJ41_poll_9 : decode cJ41_poll 9 = .ok (.astore_n 2, 1) := dk_77 (dk_at dksJ41_poll_0 9 rfl rfl)
theorem dJ41_poll_10 : decode cJ41_poll 10 = .ok (.ifnull 69, 3) := dk_198 0 69 (dk_at dksJ41_poll_0 10 rfl rfl)
theorem dJ41_poll_13 : decode cJ41_poll 13 = .ok (.aload_n 0, 1) := dk_42 (dk_at dksJ41_poll_0 13 rfl rfl)
theorem dJ41_poll_14 : decode cJ41_poll 14 = .ok (.dup, 1) := dk_89 (dk_at dksJ41_poll_0 14 rfl rfl)
theorem dJ41_poll_15 : decode cJ41_poll 15 = .ok (.getfield 93, 3) := dk_180 0 93 (dk_at dksJ41_poll_0 15 rfl rfl)
theorem dJ41_poll_18 : decode cJ41_poll 18 = .ok (.iconst 1, 1) := dk_4 (dk_at dksJ41_poll_0 18 rfl rfl)
theorem dJ41_poll_19 : decode cJ41_poll 19 = .ok (.iadd, 1) := dk_96 (dk_at dksJ41_poll_0 19 rfl rfl)
theorem dJ41_poll_20 : decode cJ41_poll 20 = .ok (.putfield 93, 3) := dk_181 0 93 (dk_at dksJ41_poll_0 20 rfl rfl)
theorem dJ41_poll_23 : decode cJ41_poll 23 = .ok (.aload_n 1, 1) := dk_43 (dk_at dksJ41_poll_0 23 rfl rfl)
theorem dJ41_poll_24 : decode cJ41_poll 24 = .ok (.aload_n 0, 1) := dk_42 (dk_at dksJ41_poll_1 0 rfl rfl)
theorem dJ41_poll_25 : decode cJ41_poll 25 = .ok (.dup, 1) := dk_89 (dk_at dksJ41_poll_1 1 rfl rfl)
theorem dJ41_poll_26 : decode cJ41_poll 26 = .ok (.getfield 58, 3) := dk_180 0 58 (dk_at dksJ41_poll_1 2 rfl rfl)
theorem dJ41_poll_29 : decode cJ41_poll 29 = .ok (.iconst 1, 1) := dk_4 (dk_at dksJ41_poll_1 5 rfl rfl)
theorem dJ41_poll_30 : decode cJ41_poll 30 = .ok (.isub, 1) := dk_100 (dk_at dksJ41_poll_1 6 rfl rfl)
theorem dJ41_poll_31 : decode cJ41_poll 31 = .ok (.dup_x1, 1) := dk_90 (dk_at dksJ41_poll_1 7 rfl rfl)
theorem dJ41_poll_32 : decode cJ41_poll 32 = .ok (.putfield 58, 3) := dk_181 0 58 (dk_at dksJ41_poll_1 8 rfl rfl)
theorem dJ41_poll_35 : decode cJ41_poll 35 = .ok (.dup, 1) := dk_89 (dk_at dksJ41_poll_1 11 rfl rfl)
theorem dJ41_poll_36 : decode cJ41_poll 36 = .ok (.istore_n 3, 1) := dk_62 (dk_at dksJ41_poll_1 12 rfl rfl)
theorem dJ41_poll_37 : decode cJ41_poll 37 = .ok (.aaload, 1) := dk_50 (dk_at dksJ41_poll_1 13 rfl rfl)
theorem dJ41_poll_38 : decode cJ41_poll 38 = .ok (.astore 4, 2) := dk_58 4 (dk_at dksJ41_poll_1 14 rfl rfl)
theorem dJ41_poll_40 : decode cJ41_poll 40 = .ok (.aload_n 1, 1) := dk_43 (dk_at dksJ41_poll_1 16 rfl rfl)
theorem dJ41_poll_41 : decode cJ41_poll 41 = .ok (.iload_n 3, 1) := dk_29 (dk_at dksJ41_poll_1 17 rfl rfl)
theorem dJ41_poll_42 : decode cJ41_poll 42 = .ok (.aconst_null, 1) := dk_1 (dk_at dksJ41_poll_1 18 rfl rfl)
theorem dJ41_poll_43 : decode cJ41_poll 43 = .ok (.aastore, 1) := dk_83 (dk_at dksJ41_poll_1 19 rfl rfl)
theorem dJ41_poll_44 : decode cJ41_poll 44 = .ok (.iload_n 3, 1) := dk_29 (dk_at dksJ41_poll_1 20 rfl rfl)
theorem dJ41_poll_45 : decode cJ41_poll 45 = .ok (.ifCond .le 34, 3) := dk_158 0 34 (dk_at dksJ41_poll_1 21 rfl rfl)
theorem dJ41_poll_48 : decode cJ41_poll 48 = .ok (.aload_n 0, 1) := dk_42 (dk_at dksJ41_poll_2 0 rfl rfl)
theorem dJ41_poll_49 : decode cJ41_poll 49 = .ok (.getfield 21, 3) := dk_180 0 21 (dk_at dksJ41_poll_2 1 rfl rfl)
theorem dJ41_poll_52 : decode cJ41_poll 52 = .ok (.dup, 1) := dk_89 (dk_at dksJ41_poll_2 4 rfl rfl)
theorem dJ41_poll_53 : decode cJ41_poll 53 = .ok (.astore 5, 2) := dk_58 5 (dk_at dksJ41_poll_2 5 rfl rfl)
theorem dJ41_poll_55 : decode cJ41_poll 55 = .ok (.ifnonnull 14, 3) := dk_199 0 14 (dk_at dksJ41_poll_2 7 rfl rfl)
theorem dJ41_poll_58 : decode cJ41_poll 58 = .ok (.iconst 0, 1) := dk_3 (dk_at dksJ41_poll_2 10 rfl rfl)
theorem dJ41_poll_59 : decode cJ41_poll 59 = .ok (.aload 4, 2) := dk_25 4 (dk_at dksJ41_poll_2 11 rfl rfl)
theorem dJ41_poll_61 : decode cJ41_poll 61 = .ok (.aload_n 1, 1) := dk_43 (dk_at dksJ41_poll_2 13 rfl rfl)
theorem dJ41_poll_62 : decode cJ41_poll 62 = .ok (.iload_n 3, 1) := dk_29 (dk_at dksJ41_poll_2 14 rfl rfl)
theorem dJ41_poll_63 : decode cJ41_poll 63 = .ok (.invokestatic 125, 3) := dk_184 0 125 (dk_at dksJ41_poll_2 15 rfl rfl)
theorem dJ41_poll_66 : decode cJ41_poll 66 = .ok (.goto 13, 3) := dk_167 0 13 (dk_at dksJ41_poll_2 18 rfl rfl)
theorem dJ41_poll_69 : decode cJ41_poll 69 = .ok (.iconst 0, 1) := dk_3 (dk_at dksJ41_poll_2 21 rfl rfl)
theorem dJ41_poll_70 : decode cJ41_poll 70 = .ok (.aload 4, 2) := dk_25 4 (dk_at dksJ41_poll_2 22 rfl rfl)
theorem dJ41_poll_72 : decode cJ41_poll 72 = .ok (.aload_n 1, 1) := dk_43 (dk_at dksJ41_poll_3 0 rfl rfl)
theorem dJ41_poll_73 : decode cJ41_poll 73 = .ok (.iload_n 3, 1) := dk_29 (dk_at dksJ41_poll_3 1 rfl rfl)
theorem dJ41_poll_74 : decode cJ41_poll 74 = .ok (.aload 5, 2) := dk_25 5 (dk_at dksJ41_poll_3 2 rfl rfl)
theorem dJ41_poll_76 : decode cJ41_poll 76 = .ok (.invokestatic 129, 3) := dk_184 0 129 (dk_at dksJ41_poll_3 4 rfl rfl)
theorem dJ41_poll_79 : decode cJ41_poll 79 = .ok (.aload_n 2, 1) := dk_44 (dk_at dksJ41_poll_3 7 rfl rfl)
theorem dJ41_poll_80 : decode cJ41_poll 80 = .ok (.areturn, 1) := dk_176 (dk_at dksJ41_poll_3 8 rfl rfl)
abbrev cJ41_siftDownComparable : ByteArray := prog_73_method_31_code
def yJ41_siftDownComparable : MethodName := ⟨RJ41, "siftDownComparable", "(ILjava/lang/Object;[Ljava/lang/Object;I)V"⟩
def dkwJ41_siftDownComparable_4 : List UInt8 := [25, 4, 83, 177]
abbrev dktJ41_siftDownComparable_4 : List UInt8 := dkwJ41_siftDownComparable_4 ++ []
def dkwJ41_siftDownComparable_3 : List UInt8 := [185, 0, 146, 2, 0, 157, 0, 6, 167, 0, 14, 44, 26, 25, 7, 83, 21, 6, 59, 167, 255, 176, 44, 26]
abbrev dktJ41_siftDownComparable_3 : List UInt8 := dkwJ41_siftDownComparable_3 ++ dktJ41_siftDownComparable_4
def dkwJ41_siftDownComparable_2 : List UInt8 := [21, 8, 50, 185, 0, 146, 2, 0, 158, 0, 12, 44, 21, 8, 89, 54, 6, 50, 58, 7, 25, 4, 25, 7]
abbrev dktJ41_siftDownComparable_2 : List UInt8 := dkwJ41_siftDownComparable_2 ++ dktJ41_siftDownComparable_3
def dkwJ41_siftDownComparable_1 : List UInt8 := [44, 21, 6, 50, 58, 7, 21, 6, 4, 96, 54, 8, 21, 8, 29, 162, 0, 29, 25, 7, 192, 0, 144, 44]
abbrev dktJ41_siftDownComparable_1 : List UInt8 := dkwJ41_siftDownComparable_1 ++ dktJ41_siftDownComparable_2
def dkwJ41_siftDownComparable_0 : List UInt8 := [43, 192, 0, 144, 58, 4, 29, 4, 124, 54, 5, 26, 21, 5, 162, 0, 80, 26, 4, 120, 4, 96, 54, 6]
abbrev dktJ41_siftDownComparable_0 : List UInt8 := dkwJ41_siftDownComparable_0 ++ dktJ41_siftDownComparable_1
theorem dksJ41_siftDownComparable_0 : cJ41_siftDownComparable.data.toList.drop 0 = dktJ41_siftDownComparable_0 := by decide +kernel
theorem dksJ41_siftDownComparable_1 : cJ41_siftDownComparable.data.toList.drop 24 = dktJ41_siftDownComparable_1 := dk_seg dksJ41_siftDownComparable_0 24 rfl rfl
theorem dksJ41_siftDownComparable_2 : cJ41_siftDownComparable.data.toList.drop 48 = dktJ41_siftDownComparable_2 := dk_seg dksJ41_siftDownComparable_1 24 rfl rfl
theorem dksJ41_siftDownComparable_3 : cJ41_siftDownComparable.data.toList.drop 72 = dktJ41_siftDownComparable_3 := dk_seg dksJ41_siftDownComparable_2 24 rfl rfl
theorem dksJ41_siftDownComparable_4 : cJ41_siftDownComparable.data.toList.drop 96 = dktJ41_siftDownComparable_4 := dk_seg dksJ41_siftDownComparable_3 24 rfl rfl
theorem dJ41_siftDownComparable_0 : decode cJ41_siftDownComparable 0 = .ok (.aload_n 1, 1) := dk_43 (dk_at dksJ41_siftDownComparable_0 0 rfl rfl)
theorem dJ41_siftDownComparable_1 : decode cJ41_siftDownComparable 1 = .ok (.checkcast 144, 3) := dk_192 0 144 (dk_at dksJ41_siftDownComparable_0 1 rfl rfl)
theorem dJ41_siftDownComparable_4 : decode cJ41_siftDownComparable 4 = .ok (.astore 4, 2) := dk_58 4 (dk_at dksJ41_siftDownComparable_0 4 rfl rfl)
theorem dJ41_siftDownComparable_6 : decode cJ41_siftDownComparable 6 = .ok (.iload_n 3, 1) := dk_29 (dk_at dksJ41_siftDownComparable_0 6 rfl rfl)
theorem dJ41_siftDownComparable_7 : decode cJ41_siftDownComparable 7 = .ok (.iconst 1, 1) := dk_4 (dk_at dksJ41_siftDownComparable_0 7 rfl rfl)
theorem dJ41_siftDownComparable_8 : decode cJ41_siftDownComparable 8 = .ok (.iushr, 1) := dk_124 (dk_at dksJ41_siftDownComparable_0 8 rfl rfl)
theorem dJ41_siftDownComparable_9 : decode cJ41_siftDownComparable 9 = .ok (.istore 5, 2) := dk_54 5 (dk_at dksJ41_siftDownComparable_0 9 rfl rfl)
theorem dJ41_siftDownComparable_11 : decode cJ41_siftDownComparable 11 = .ok (.iload_n 0, 1) := dk_26 (dk_at dksJ41_siftDownComparable_0 11 rfl rfl)
theorem dJ41_siftDownComparable_12 : decode cJ41_siftDownComparable 12 = .ok (.iload 5, 2) := dk_21 5 (dk_at dksJ41_siftDownComparable_0 12 rfl rfl)
theorem dJ41_siftDownComparable_14 : decode cJ41_siftDownComparable 14 = .ok (.if_icmp .ge 80, 3) := dk_162 0 80 (dk_at dksJ41_siftDownComparable_0 14 rfl rfl)
theorem dJ41_siftDownComparable_17 : decode cJ41_siftDownComparable 17 = .ok (.iload_n 0, 1) := dk_26 (dk_at dksJ41_siftDownComparable_0 17 rfl rfl)
theorem dJ41_siftDownComparable_18 : decode cJ41_siftDownComparable 18 = .ok (.iconst 1, 1) := dk_4 (dk_at dksJ41_siftDownComparable_0 18 rfl rfl)
theorem dJ41_siftDownComparable_19 : decode cJ41_siftDownComparable 19 = .ok (.ishl, 1) := dk_120 (dk_at dksJ41_siftDownComparable_0 19 rfl rfl)
theorem dJ41_siftDownComparable_20 : decode cJ41_siftDownComparable 20 = .ok (.iconst 1, 1) := dk_4 (dk_at dksJ41_siftDownComparable_0 20 rfl rfl)
theorem dJ41_siftDownComparable_21 : decode cJ41_siftDownComparable 21 = .ok (.iadd, 1) := dk_96 (dk_at dksJ41_siftDownComparable_0 21 rfl rfl)
theorem dJ41_siftDownComparable_22 : decode cJ41_siftDownComparable 22 = .ok (.istore 6, 2) := dk_54 6 (dk_at dksJ41_siftDownComparable_0 22 rfl rfl)
theorem dJ41_siftDownComparable_24 : decode cJ41_siftDownComparable 24 = .ok (.aload_n 2, 1) := dk_44 (dk_at dksJ41_siftDownComparable_1 0 rfl rfl)
theorem dJ41_siftDownComparable_25 : decode cJ41_siftDownComparable 25 = .ok (.iload 6, 2) := dk_21 6 (dk_at dksJ41_siftDownComparable_1 1 rfl rfl)
theorem dJ41_siftDownComparable_27 : decode cJ41_siftDownComparable 27 = .ok (.aaload, 1) := dk_50 (dk_at dksJ41_siftDownComparable_1 3 rfl rfl)
theorem dJ41_siftDownComparable_28 : decode cJ41_siftDownComparable 28 = .ok (.astore 7, 2) := dk_58 7 (dk_at dksJ41_siftDownComparable_1 4 rfl rfl)
theorem dJ41_siftDownComparable_30 : decode cJ41_siftDownComparable 30 = .ok (.iload 6, 2) := dk_21 6 (dk_at dksJ41_siftDownComparable_1 6 rfl rfl)
theorem dJ41_siftDownComparable_32 : decode cJ41_siftDownComparable 32 = .ok (.iconst 1, 1) := dk_4 (dk_at dksJ41_siftDownComparable_1 8 rfl rfl)
theorem dJ41_siftDownComparable_33 : decode cJ41_siftDownComparable 33 = .ok (.iadd, 1) := dk_96 (dk_at dksJ41_siftDownComparable_1 9 rfl rfl)
theorem dJ41_siftDownComparable_34 : decode cJ41_siftDownComparable 34 = .ok (.istore 8, 2) := dk_54 8 (dk_at dksJ41_siftDownComparable_1 10 rfl rfl)
theorem dJ41_siftDownComparable_36 : decode cJ41_siftDownComparable 36 = .ok (.iload 8, 2) := dk_21 8 (dk_at dksJ41_siftDownComparable_1 12 rfl rfl)
theorem dJ41_siftDownComparable_38 : decode cJ41_siftDownComparable 38 = .ok (.iload_n 3, 1) := dk_29 (dk_at dksJ41_siftDownComparable_1 14 rfl rfl)
theorem dJ41_siftDownComparable_39 : decode cJ41_siftDownComparable 39 = .ok (.if_icmp .ge 29, 3) := dk_162 0 29 (dk_at dksJ41_siftDownComparable_1 15 rfl rfl)
theorem dJ41_siftDownComparable_42 : decode cJ41_siftDownComparable 42 = .ok (.aload 7, 2) := dk_25 7 (dk_at dksJ41_siftDownComparable_1 18 rfl rfl)
theorem dJ41_siftDownComparable_44 : decode cJ41_siftDownComparable 44 = .ok (.checkcast 144, 3) := dk_192 0 144 (dk_at dksJ41_siftDownComparable_1 20 rfl rfl)
theorem dJ41_siftDownComparable_47 : decode cJ41_siftDownComparable 47 = .ok (.aload_n 2, 1) := dk_44 (dk_at dksJ41_siftDownComparable_1 23 rfl rfl)
theorem dJ41_siftDownComparable_48 : decode cJ41_siftDownComparable 48 = .ok (.iload 8, 2) := dk_21 8 (dk_at dksJ41_siftDownComparable_2 0 rfl rfl)
theorem dJ41_siftDownComparable_50 : decode cJ41_siftDownComparable 50 = .ok (.aaload, 1) := dk_50 (dk_at dksJ41_siftDownComparable_2 2 rfl rfl)
theorem dJ41_siftDownComparable_51 : decode cJ41_siftDownComparable 51 = .ok (.invokeinterface 146 2, 5) := by decide +kernel
theorem dJ41_siftDownComparable_56 : decode cJ41_siftDownComparable 56 = .ok (.ifCond .le 12, 3) := dk_158 0 12 (dk_at dksJ41_siftDownComparable_2 8 rfl rfl)
theorem dJ41_siftDownComparable_59 : decode cJ41_siftDownComparable 59 = .ok (.aload_n 2, 1) := dk_44 (dk_at dksJ41_siftDownComparable_2 11 rfl rfl)
theorem dJ41_siftDownComparable_60 : decode cJ41_siftDownComparable 60 = .ok (.iload 8, 2) := dk_21 8 (dk_at dksJ41_siftDownComparable_2 12 rfl rfl)
theorem dJ41_siftDownComparable_62 : decode cJ41_siftDownComparable 62 = .ok (.dup, 1) := dk_89 (dk_at dksJ41_siftDownComparable_2 14 rfl rfl)
theorem dJ41_siftDownComparable_63 : decode cJ41_siftDownComparable 63 = .ok (.istore 6, 2) := dk_54 6 (dk_at dksJ41_siftDownComparable_2 15 rfl rfl)
theorem dJ41_siftDownComparable_65 : decode cJ41_siftDownComparable 65 = .ok (.aaload, 1) := dk_50 (dk_at dksJ41_siftDownComparable_2 17 rfl rfl)
theorem dJ41_siftDownComparable_66 : decode cJ41_siftDownComparable 66 = .ok (.astore 7, 2) := dk_58 7 (dk_at dksJ41_siftDownComparable_2 18 rfl rfl)
theorem dJ41_siftDownComparable_68 : decode cJ41_siftDownComparable 68 = .ok (.aload 4, 2) := dk_25 4 (dk_at dksJ41_siftDownComparable_2 20 rfl rfl)
theorem dJ41_siftDownComparable_70 : decode cJ41_siftDownComparable 70 = .ok (.aload 7, 2) := dk_25 7 (dk_at dksJ41_siftDownComparable_2 22 rfl rfl)
theorem dJ41_siftDownComparable_72 : decode cJ41_siftDownComparable 72 = .ok (.invokeinterface 146 2, 5) := by decide +kernel
theorem dJ41_siftDownComparable_77 : decode cJ41_siftDownComparable 77 = .ok (.ifCond .gt 6, 3) := dk_157 0 6 (dk_at dksJ41_siftDownComparable_3 5 rfl rfl)
theorem dJ41_siftDownComparable_80 : decode cJ41_siftDownComparable 80 = .ok (.goto 14, 3) := dk_167 0 14 (dk_at dksJ41_siftDownComparable_3 8 rfl rfl)
theorem dJ41_siftDownComparable_83 : decode cJ41_siftDownComparable 83 = .ok (.aload_n 2, 1) := dk_44 (dk_at dksJ41_siftDownComparable_3 11 rfl rfl)
theorem dJ41_siftDownComparable_84 : decode cJ41_siftDownComparable 84 = .ok (.iload_n 0, 1) := dk_26 (dk_at dksJ41_siftDownComparable_3 12 rfl rfl)
theorem dJ41_siftDownComparable_85 : decode cJ41_siftDownComparable 85 = .ok (.aload 7, 2) := dk_25 7 (dk_at dksJ41_siftDownComparable_3 13 rfl rfl)
theorem dJ41_siftDownComparable_87 : decode cJ41_siftDownComparable 87 = .ok (.aastore, 1) := dk_83 (dk_at dksJ41_siftDownComparable_3 15 rfl rfl)
theorem dJ41_siftDownComparable_88 : decode cJ41_siftDownComparable 88 = .ok (.iload 6, 2) := dk_21 6 (dk_at dksJ41_siftDownComparable_3 16 rfl rfl)
theorem dJ41_siftDownComparable_90 : decode cJ41_siftDownComparable 90 = .ok (.istore_n 0, 1) := dk_59 (dk_at dksJ41_siftDownComparable_3 18 rfl rfl)
theorem dJ41_siftDownComparable_91 : decode cJ41_siftDownComparable 91 = .ok (.goto (-80), 3) := dk_167 255 176 (dk_at dksJ41_siftDownComparable_3 19 rfl rfl)
theorem dJ41_siftDownComparable_94 : decode cJ41_siftDownComparable 94 = .ok (.aload_n 2, 1) := dk_44 (dk_at dksJ41_siftDownComparable_3 22 rfl rfl)
theorem dJ41_siftDownComparable_95 : decode cJ41_siftDownComparable 95 = .ok (.iload_n 0, 1) := dk_26 (dk_at dksJ41_siftDownComparable_3 23 rfl rfl)
theorem dJ41_siftDownComparable_96 : decode cJ41_siftDownComparable 96 = .ok (.aload 4, 2) := dk_25 4 (dk_at dksJ41_siftDownComparable_4 0 rfl rfl)
theorem dJ41_siftDownComparable_98 : decode cJ41_siftDownComparable 98 = .ok (.aastore, 1) := dk_83 (dk_at dksJ41_siftDownComparable_4 2 rfl rfl)
theorem dJ41_siftDownComparable_99 : decode cJ41_siftDownComparable 99 = .ok (.return_, 1) := dk_177 (dk_at dksJ41_siftDownComparable_4 3 rfl rfl)
abbrev cJ41_siftDownUsingComparator : ByteArray := prog_73_method_32_code
def yJ41_siftDownUsingComparator : MethodName := ⟨RJ41, "siftDownUsingComparator", "(ILjava/lang/Object;[Ljava/lang/Object;ILjava/util/Comparator;)V"⟩
def dkwJ41_siftDownUsingComparator_4 : List UInt8 := [43, 83, 177]
abbrev dktJ41_siftDownUsingComparator_4 : List UInt8 := dkwJ41_siftDownUsingComparator_4 ++ []
def dkwJ41_siftDownUsingComparator_3 : List UInt8 := [185, 0, 149, 3, 0, 157, 0, 6, 167, 0, 14, 44, 26, 25, 7, 83, 21, 6, 59, 167, 255, 176, 44, 26]
abbrev dktJ41_siftDownUsingComparator_3 : List UInt8 := dkwJ41_siftDownUsingComparator_3 ++ dktJ41_siftDownUsingComparator_4
def dkwJ41_siftDownUsingComparator_2 : List UInt8 := [185, 0, 149, 3, 0, 158, 0, 12, 44, 21, 8, 89, 54, 6, 50, 58, 7, 25, 4, 43, 25, 7]
abbrev dktJ41_siftDownUsingComparator_2 : List UInt8 := dkwJ41_siftDownUsingComparator_2 ++ dktJ41_siftDownUsingComparator_3
def dkwJ41_siftDownUsingComparator_1 : List UInt8 := [21, 6, 4, 96, 54, 8, 21, 8, 29, 162, 0, 28, 25, 4, 25, 7, 44, 21, 8, 50]
abbrev dktJ41_siftDownUsingComparator_1 : List UInt8 := dkwJ41_siftDownUsingComparator_1 ++ dktJ41_siftDownUsingComparator_2
def dkwJ41_siftDownUsingComparator_0 : List UInt8 := [29, 4, 124, 54, 5, 26, 21, 5, 162, 0, 80, 26, 4, 120, 4, 96, 54, 6, 44, 21, 6, 50, 58, 7]
abbrev dktJ41_siftDownUsingComparator_0 : List UInt8 := dkwJ41_siftDownUsingComparator_0 ++ dktJ41_siftDownUsingComparator_1
theorem dksJ41_siftDownUsingComparator_0 : cJ41_siftDownUsingComparator.data.toList.drop 0 = dktJ41_siftDownUsingComparator_0 := by decide +kernel
theorem dksJ41_siftDownUsingComparator_1 : cJ41_siftDownUsingComparator.data.toList.drop 24 = dktJ41_siftDownUsingComparator_1 := dk_seg dksJ41_siftDownUsingComparator_0 24 rfl rfl
theorem dksJ41_siftDownUsingComparator_2 : cJ41_siftDownUsingComparator.data.toList.drop 44 = dktJ41_siftDownUsingComparator_2 := dk_seg dksJ41_siftDownUsingComparator_1 20 rfl rfl
theorem dksJ41_siftDownUsingComparator_3 : cJ41_siftDownUsingComparator.data.toList.drop 66 = dktJ41_siftDownUsingComparator_3 := dk_seg dksJ41_siftDownUsingComparator_2 22 rfl rfl
theorem dksJ41_siftDownUsingComparator_4 : cJ41_siftDownUsingComparator.data.toList.drop 90 = dktJ41_siftDownUsingComparator_4 := dk_seg dksJ41_siftDownUsingComparator_3 24 rfl rfl
theorem dJ41_siftDownUsingComparator_0 : decode cJ41_siftDownUsingComparator 0 = .ok (.iload_n 3, 1) := dk_29 (dk_at dksJ41_siftDownUsingComparator_0 0 rfl rfl)
theorem dJ41_siftDownUsingComparator_1 : decode cJ41_siftDownUsingComparator 1 = .ok (.iconst 1, 1) := dk_4 (dk_at dksJ41_siftDownUsingComparator_0 1 rfl rfl)
theorem dJ41_siftDownUsingComparator_2 : decode cJ41_siftDownUsingComparator 2 = .ok (.iushr, 1) := dk_124 (dk_at dksJ41_siftDownUsingComparator_0 2 rfl rfl)
theorem dJ41_siftDownUsingComparator_3 : decode cJ41_siftDownUsingComparator 3 = .ok (.istore 5, 2) := dk_54 5 (dk_at dksJ41_siftDownUsingComparator_0 3 rfl rfl)
theorem dJ41_siftDownUsingComparator_5 : decode cJ41_siftDownUsingComparator 5 = .ok (.iload_n 0, 1) := dk_26 (dk_at dksJ41_siftDownUsingComparator_0 5 rfl rfl)
theorem dJ41_siftDownUsingComparator_6 : decode cJ41_siftDownUsingComparator 6 = .ok (.iload 5, 2) := dk_21 5 (dk_at dksJ41_siftDownUsingComparator_0 6 rfl rfl)
theorem dJ41_siftDownUsingComparator_8 : decode cJ41_siftDownUsingComparator 8 = .ok (.if_icmp .ge 80, 3) := dk_162 0 80 (dk_at dksJ41_siftDownUsingComparator_0 8 rfl rfl)
theorem dJ41_siftDownUsingComparator_11 : decode cJ41_siftDownUsingComparator 11 = .ok (.iload_n 0, 1) := dk_26 (dk_at dksJ41_siftDownUsingComparator_0 11 rfl rfl)
theorem dJ41_siftDownUsingComparator_12 : decode cJ41_siftDownUsingComparator 12 = .ok (.iconst 1, 1) := dk_4 (dk_at dksJ41_siftDownUsingComparator_0 12 rfl rfl)
theorem dJ41_siftDownUsingComparator_13 : decode cJ41_siftDownUsingComparator 13 = .ok (.ishl, 1) := dk_120 (dk_at dksJ41_siftDownUsingComparator_0 13 rfl rfl)
theorem dJ41_siftDownUsingComparator_14 : decode cJ41_siftDownUsingComparator 14 = .ok (.iconst 1, 1) := dk_4 (dk_at dksJ41_siftDownUsingComparator_0 14 rfl rfl)
theorem dJ41_siftDownUsingComparator_15 : decode cJ41_siftDownUsingComparator 15 = .ok (.iadd, 1) := dk_96 (dk_at dksJ41_siftDownUsingComparator_0 15 rfl rfl)
theorem dJ41_siftDownUsingComparator_16 : decode cJ41_siftDownUsingComparator 16 = .ok (.istore 6, 2) := dk_54 6 (dk_at dksJ41_siftDownUsingComparator_0 16 rfl rfl)
theorem dJ41_siftDownUsingComparator_18 : decode cJ41_siftDownUsingComparator 18 = .ok (.aload_n 2, 1) := dk_44 (dk_at dksJ41_siftDownUsingComparator_0 18 rfl rfl)
theorem dJ41_siftDownUsingComparator_19 : decode cJ41_siftDownUsingComparator 19 = .ok (.iload 6, 2) := dk_21 6 (dk_at dksJ41_siftDownUsingComparator_0 19 rfl rfl)
theorem dJ41_siftDownUsingComparator_21 : decode cJ41_siftDownUsingComparator 21 = .ok (.aaload, 1) := dk_50 (dk_at dksJ41_siftDownUsingComparator_0 21 rfl rfl)
theorem dJ41_siftDownUsingComparator_22 : decode cJ41_siftDownUsingComparator 22 = .ok (.astore 7, 2) := dk_58 7 (dk_at dksJ41_siftDownUsingComparator_0 22 rfl rfl)
theorem dJ41_siftDownUsingComparator_24 : decode cJ41_siftDownUsingComparator 24 = .ok (.iload 6, 2) := dk_21 6 (dk_at dksJ41_siftDownUsingComparator_1 0 rfl rfl)
theorem dJ41_siftDownUsingComparator_26 : decode cJ41_siftDownUsingComparator 26 = .ok (.iconst 1, 1) := dk_4 (dk_at dksJ41_siftDownUsingComparator_1 2 rfl rfl)
theorem dJ41_siftDownUsingComparator_27 : decode cJ41_siftDownUsingComparator 27 = .ok (.iadd, 1) := dk_96 (dk_at dksJ41_siftDownUsingComparator_1 3 rfl rfl)
theorem dJ41_siftDownUsingComparator_28 : decode cJ41_siftDownUsingComparator 28 = .ok (.istore 8, 2) := dk_54 8 (dk_at dksJ41_siftDownUsingComparator_1 4 rfl rfl)
theorem dJ41_siftDownUsingComparator_30 : decode cJ41_siftDownUsingComparator 30 = .ok (.iload 8, 2) := dk_21 8 (dk_at dksJ41_siftDownUsingComparator_1 6 rfl rfl)
theorem dJ41_siftDownUsingComparator_32 : decode cJ41_siftDownUsingComparator 32 = .ok (.iload_n 3, 1) := dk_29 (dk_at dksJ41_siftDownUsingComparator_1 8 rfl rfl)
theorem dJ41_siftDownUsingComparator_33 : decode cJ41_siftDownUsingComparator 33 = .ok (.if_icmp .ge 28, 3) := dk_162 0 28 (dk_at dksJ41_siftDownUsingComparator_1 9 rfl rfl)
theorem dJ41_siftDownUsingComparator_36 : decode cJ41_siftDownUsingComparator 36 = .ok (.aload 4, 2) := dk_25 4 (dk_at dksJ41_siftDownUsingComparator_1 12 rfl rfl)
theorem dJ41_siftDownUsingComparator_38 : decode cJ41_siftDownUsingComparator 38 = .ok (.aload 7, 2) := dk_25 7 (dk_at dksJ41_siftDownUsingComparator_1 14 rfl rfl)
theorem dJ41_siftDownUsingComparator_40 : decode cJ41_siftDownUsingComparator 40 = .ok (.aload_n 2, 1) := dk_44 (dk_at dksJ41_siftDownUsingComparator_1 16 rfl rfl)
theorem dJ41_siftDownUsingComparator_41 : decode cJ41_siftDownUsingComparator 41 = .ok (.iload 8, 2) := dk_21 8 (dk_at dksJ41_siftDownUsingComparator_1 17 rfl rfl)
theorem dJ41_siftDownUsingComparator_43 : decode cJ41_siftDownUsingComparator 43 = .ok (.aaload, 1) := dk_50 (dk_at dksJ41_siftDownUsingComparator_1 19 rfl rfl)
theorem dJ41_siftDownUsingComparator_44 : decode cJ41_siftDownUsingComparator 44 = .ok (.invokeinterface 149 3, 5) := by decide +kernel
theorem dJ41_siftDownUsingComparator_49 : decode cJ41_siftDownUsingComparator 49 = .ok (.ifCond .le 12, 3) := dk_158 0 12 (dk_at dksJ41_siftDownUsingComparator_2 5 rfl rfl)
theorem dJ41_siftDownUsingComparator_52 : decode cJ41_siftDownUsingComparator 52 = .ok (.aload_n 2, 1) := dk_44 (dk_at dksJ41_siftDownUsingComparator_2 8 rfl rfl)
theorem dJ41_siftDownUsingComparator_53 : decode cJ41_siftDownUsingComparator 53 = .ok (.iload 8, 2) := dk_21 8 (dk_at dksJ41_siftDownUsingComparator_2 9 rfl rfl)
theorem dJ41_siftDownUsingComparator_55 : decode cJ41_siftDownUsingComparator 55 = .ok (.dup, 1) := dk_89 (dk_at dksJ41_siftDownUsingComparator_2 11 rfl rfl)
theorem dJ41_siftDownUsingComparator_56 : decode cJ41_siftDownUsingComparator 56 = .ok (.istore 6, 2) := dk_54 6 (dk_at dksJ41_siftDownUsingComparator_2 12 rfl rfl)
theorem dJ41_siftDownUsingComparator_58 : decode cJ41_siftDownUsingComparator 58 = .ok (.aaload, 1) := dk_50 (dk_at dksJ41_siftDownUsingComparator_2 14 rfl rfl)
theorem dJ41_siftDownUsingComparator_59 : decode cJ41_siftDownUsingComparator 59 = .ok (.astore 7, 2) := dk_58 7 (dk_at dksJ41_siftDownUsingComparator_2 15 rfl rfl)
theorem dJ41_siftDownUsingComparator_61 : decode cJ41_siftDownUsingComparator 61 = .ok (.aload 4, 2) := dk_25 4 (dk_at dksJ41_siftDownUsingComparator_2 17 rfl rfl)
theorem dJ41_siftDownUsingComparator_63 : decode cJ41_siftDownUsingComparator 63 = .ok (.aload_n 1, 1) := dk_43 (dk_at dksJ41_siftDownUsingComparator_2 19 rfl rfl)
theorem dJ41_siftDownUsingComparator_64 : decode cJ41_siftDownUsingComparator 64 = .ok (.aload 7, 2) := dk_25 7 (dk_at dksJ41_siftDownUsingComparator_2 20 rfl rfl)
theorem dJ41_siftDownUsingComparator_66 : decode cJ41_siftDownUsingComparator 66 = .ok (.invokeinterface 149 3, 5) := by decide +kernel
theorem dJ41_siftDownUsingComparator_71 : decode cJ41_siftDownUsingComparator 71 = .ok (.ifCond .gt 6, 3) := dk_157 0 6 (dk_at dksJ41_siftDownUsingComparator_3 5 rfl rfl)
theorem dJ41_siftDownUsingComparator_74 : decode cJ41_siftDownUsingComparator 74 = .ok (.goto 14, 3) := dk_167 0 14 (dk_at dksJ41_siftDownUsingComparator_3 8 rfl rfl)
theorem dJ41_siftDownUsingComparator_77 : decode cJ41_siftDownUsingComparator 77 = .ok (.aload_n 2, 1) := dk_44 (dk_at dksJ41_siftDownUsingComparator_3 11 rfl rfl)
theorem dJ41_siftDownUsingComparator_78 : decode cJ41_siftDownUsingComparator 78 = .ok (.iload_n 0, 1) := dk_26 (dk_at dksJ41_siftDownUsingComparator_3 12 rfl rfl)
theorem dJ41_siftDownUsingComparator_79 : decode cJ41_siftDownUsingComparator 79 = .ok (.aload 7, 2) := dk_25 7 (dk_at dksJ41_siftDownUsingComparator_3 13 rfl rfl)
theorem dJ41_siftDownUsingComparator_81 : decode cJ41_siftDownUsingComparator 81 = .ok (.aastore, 1) := dk_83 (dk_at dksJ41_siftDownUsingComparator_3 15 rfl rfl)
theorem dJ41_siftDownUsingComparator_82 : decode cJ41_siftDownUsingComparator 82 = .ok (.iload 6, 2) := dk_21 6 (dk_at dksJ41_siftDownUsingComparator_3 16 rfl rfl)
theorem dJ41_siftDownUsingComparator_84 : decode cJ41_siftDownUsingComparator 84 = .ok (.istore_n 0, 1) := dk_59 (dk_at dksJ41_siftDownUsingComparator_3 18 rfl rfl)
theorem dJ41_siftDownUsingComparator_85 : decode cJ41_siftDownUsingComparator 85 = .ok (.goto (-80), 3) := dk_167 255 176 (dk_at dksJ41_siftDownUsingComparator_3 19 rfl rfl)
theorem dJ41_siftDownUsingComparator_88 : decode cJ41_siftDownUsingComparator 88 = .ok (.aload_n 2, 1) := dk_44 (dk_at dksJ41_siftDownUsingComparator_3 22 rfl rfl)
theorem dJ41_siftDownUsingComparator_89 : decode cJ41_siftDownUsingComparator 89 = .ok (.iload_n 0, 1) := dk_26 (dk_at dksJ41_siftDownUsingComparator_3 23 rfl rfl)
theorem dJ41_siftDownUsingComparator_90 : decode cJ41_siftDownUsingComparator 90 = .ok (.aload_n 1, 1) := dk_43 (dk_at dksJ41_siftDownUsingComparator_4 0 rfl rfl)
theorem dJ41_siftDownUsingComparator_91 : decode cJ41_siftDownUsingComparator 91 = .ok (.aastore, 1) := dk_83 (dk_at dksJ41_siftDownUsingComparator_4 1 rfl rfl)
theorem dJ41_siftDownUsingComparator_92 : decode cJ41_siftDownUsingComparator 92 = .ok (.return_, 1) := dk_177 (dk_at dksJ41_siftDownUsingComparator_4 2 rfl rfl)
abbrev cJ41_toArray : ByteArray := prog_73_method_20_code
def yJ41_toArray : MethodName := ⟨RJ41, "toArray", "()[Ljava/lang/Object;"⟩
def dkwJ41_toArray_0 : List UInt8 := [42, 180, 0, 17, 42, 180, 0, 58, 184, 0, 86, 176]
abbrev dktJ41_toArray_0 : List UInt8 := dkwJ41_toArray_0 ++ []
theorem dksJ41_toArray_0 : cJ41_toArray.data.toList.drop 0 = dktJ41_toArray_0 := by decide +kernel
theorem dJ41_toArray_0 : decode cJ41_toArray 0 = .ok (.aload_n 0, 1) := dk_42 (dk_at dksJ41_toArray_0 0 rfl rfl)
theorem dJ41_toArray_1 : decode cJ41_toArray 1 = .ok (.getfield 17, 3) := dk_180 0 17 (dk_at dksJ41_toArray_0 1 rfl rfl)
theorem dJ41_toArray_4 : decode cJ41_toArray 4 = .ok (.aload_n 0, 1) := dk_42 (dk_at dksJ41_toArray_0 4 rfl rfl)
theorem dJ41_toArray_5 : decode cJ41_toArray 5 = .ok (.getfield 58, 3) := dk_180 0 58 (dk_at dksJ41_toArray_0 5 rfl rfl)
theorem dJ41_toArray_8 : decode cJ41_toArray 8 = .ok (.invokestatic 86, 3) := dk_184 0 86 (dk_at dksJ41_toArray_0 8 rfl rfl)
theorem dJ41_toArray_11 : decode cJ41_toArray 11 = .ok (.areturn, 1) := dk_176 (dk_at dksJ41_toArray_0 11 rfl rfl)
abbrev cJ41_iterator : ByteArray := prog_73_method_22_code
def yJ41_iterator : MethodName := ⟨RJ41, "iterator", "()Ljava/util/Iterator;"⟩
def dkwJ41_iterator_0 : List UInt8 := [187, 0, 121, 89, 42, 183, 0, 123, 176]
abbrev dktJ41_iterator_0 : List UInt8 := dkwJ41_iterator_0 ++ []
theorem dksJ41_iterator_0 : cJ41_iterator.data.toList.drop 0 = dktJ41_iterator_0 := by decide +kernel
theorem dJ41_iterator_0 : decode cJ41_iterator 0 = .ok (.new 121, 3) := dk_187 0 121 (dk_at dksJ41_iterator_0 0 rfl rfl)
theorem dJ41_iterator_3 : decode cJ41_iterator 3 = .ok (.dup, 1) := dk_89 (dk_at dksJ41_iterator_0 3 rfl rfl)
theorem dJ41_iterator_4 : decode cJ41_iterator 4 = .ok (.aload_n 0, 1) := dk_42 (dk_at dksJ41_iterator_0 4 rfl rfl)
theorem dJ41_iterator_5 : decode cJ41_iterator 5 = .ok (.invokespecial 123, 3) := dk_183 0 123 (dk_at dksJ41_iterator_0 5 rfl rfl)
theorem dJ41_iterator_8 : decode cJ41_iterator 8 = .ok (.areturn, 1) := dk_176 (dk_at dksJ41_iterator_0 8 rfl rfl)
theorem q169 : (Jvm.Cond.initialized "java/util/PriorityQueue") ∈ lw_all := lw_g (lw_at lw_m1 50 rfl) rfl
theorem q877 : (Jvm.Cond.selects "java/util/PriorityQueue" ({ cls := "java/lang/Object", name := "getClass", desc := "()Ljava/lang/Class;" } : Jvm.MethodName) ({ cls := "java/lang/Object", name := "getClass", desc := "()Ljava/lang/Class;" } : Jvm.MethodName)) ∈ lw_all := lw_g (lw_at lw_m4 38 rfl) rfl
theorem q1689 : (Jvm.Cond.instantiable "java/util/PriorityQueue" (4 : Nat)) ∈ lw_all := lw_g (lw_at lw_m7 130 rfl) rfl
theorem q1701 : (Jvm.Cond.instanceMethod ({ cls := "java/util/PriorityQueue", name := "<init>", desc := "(Ljava/util/Comparator;)V" } : Jvm.MethodName)) ∈ lw_all := lw_g (lw_at lw_m7 142 rfl) rfl
theorem q1702 : (Jvm.Cond.code ({ cls := "java/util/PriorityQueue", name := "<init>", desc := "(Ljava/util/Comparator;)V" } : Jvm.MethodName) prog_73_method_3_code (2 : Nat) (Option.none : Option Jvm.ClassFile.FieldType)) ∈ lw_all := lw_g (lw_at lw_m7 143 rfl) rfl
theorem q1703 : (Jvm.Cond.methodLink "java/util/PriorityQueue" (3 : Nat) ({ cls := "java/util/PriorityQueue", name := "<init>", desc := "(ILjava/util/Comparator;)V" } : Jvm.MethodName)) ∈ lw_all := lw_g (lw_at lw_m7 144 rfl) rfl
theorem q1704 : (Jvm.Cond.instanceMethod ({ cls := "java/util/PriorityQueue", name := "<init>", desc := "(ILjava/util/Comparator;)V" } : Jvm.MethodName)) ∈ lw_all := lw_g (lw_at lw_m7 145 rfl) rfl
theorem q1705 : (Jvm.Cond.code ({ cls := "java/util/PriorityQueue", name := "<init>", desc := "(ILjava/util/Comparator;)V" } : Jvm.MethodName) prog_73_method_4_code (3 : Nat) (Option.none : Option Jvm.ClassFile.FieldType)) ∈ lw_all := lw_g (lw_at lw_m7 146 rfl) rfl
theorem q1706 : (Jvm.Cond.methodLink "java/util/PriorityQueue" (7 : Nat) ({ cls := "java/util/AbstractQueue", name := "<init>", desc := "()V" } : Jvm.MethodName)) ∈ lw_all := lw_g (lw_at lw_m7 147 rfl) rfl
theorem q1710 : (Jvm.Cond.classLink "java/util/PriorityQueue" (12 : Nat) "java/lang/IllegalArgumentException") ∈ lw_all := lw_g (lw_at lw_m7 151 rfl) rfl
theorem q1711 : (Jvm.Cond.methodLink "java/util/PriorityQueue" (14 : Nat) ({ cls := "java/lang/IllegalArgumentException", name := "<init>", desc := "()V" } : Jvm.MethodName)) ∈ lw_all := lw_g (lw_at lw_m7 152 rfl) rfl
theorem q1721 : (Jvm.Cond.classLink "java/util/PriorityQueue" (15 : Nat) "java/lang/Object") ∈ lw_all := lw_g (lw_at lw_m7 162 rfl) rfl
theorem q1723 : (Jvm.Cond.fieldLink "java/util/PriorityQueue" (17 : Nat) "java/util/PriorityQueue" "queue" "[Ljava/lang/Object;") ∈ lw_all := lw_g (lw_at lw_m7 164 rfl) rfl
theorem q1725 : (Jvm.Cond.fieldLink "java/util/PriorityQueue" (58 : Nat) "java/util/PriorityQueue" "size" "I") ∈ lw_all := lw_g (lw_at lw_m7 166 rfl) rfl
theorem q1726 : (Jvm.Cond.fieldLink "java/util/PriorityQueue" (21 : Nat) "java/util/PriorityQueue" "comparator" "Ljava/util/Comparator;") ∈ lw_all := lw_g (lw_at lw_m7 167 rfl) rfl
theorem q1728 : (Jvm.Cond.fieldLink "java/util/PriorityQueue" (93 : Nat) "java/util/PriorityQueue" "modCount" "I") ∈ lw_all := lw_g (lw_at lw_m7 169 rfl) rfl
theorem q1729 : (Jvm.Cond.lays "java/util/PriorityQueue" "java/util/PriorityQueue" "queue" "[Ljava/lang/Object;") ∈ lw_all := lw_g (lw_at lw_m7 170 rfl) rfl
theorem q1730 : (Jvm.Cond.soleField "java/util/PriorityQueue" "queue") ∈ lw_all := lw_g (lw_at lw_m7 171 rfl) rfl
theorem q1731 : (Jvm.Cond.lays "java/util/PriorityQueue" "java/util/PriorityQueue" "size" "I") ∈ lw_all := lw_g (lw_at lw_m7 172 rfl) rfl
theorem q1732 : (Jvm.Cond.soleField "java/util/PriorityQueue" "size") ∈ lw_all := lw_g (lw_at lw_m7 173 rfl) rfl
theorem q1733 : (Jvm.Cond.laysFinal "java/util/PriorityQueue" "java/util/PriorityQueue" "comparator" "Ljava/util/Comparator;") ∈ lw_all := lw_g (lw_at lw_m7 174 rfl) rfl
theorem q1734 : (Jvm.Cond.soleField "java/util/PriorityQueue" "comparator") ∈ lw_all := lw_g (lw_at lw_m7 175 rfl) rfl
theorem q1735 : (Jvm.Cond.lays "java/util/PriorityQueue" "java/util/PriorityQueue" "modCount" "I") ∈ lw_all := lw_g (lw_at lw_m7 176 rfl) rfl
theorem q1736 : (Jvm.Cond.soleField "java/util/PriorityQueue" "modCount") ∈ lw_all := lw_g (lw_at lw_m7 177 rfl) rfl
theorem q1737 : (Jvm.Cond.superclass "java/util/PriorityQueue" "java/util/AbstractQueue") ∈ lw_all := lw_g (lw_at lw_m7 178 rfl) rfl
theorem q1741 : (Jvm.Cond.instanceMethod ({ cls := "java/util/PriorityQueue", name := "add", desc := "(Ljava/lang/Object;)Z" } : Jvm.MethodName)) ∈ lw_all := lw_g (lw_at lw_m7 182 rfl) rfl
theorem q1742 : (Jvm.Cond.selects "java/util/PriorityQueue" ({ cls := "java/util/PriorityQueue", name := "add", desc := "(Ljava/lang/Object;)Z" } : Jvm.MethodName) ({ cls := "java/util/PriorityQueue", name := "add", desc := "(Ljava/lang/Object;)Z" } : Jvm.MethodName)) ∈ lw_all := lw_g (lw_at lw_m7 183 rfl) rfl
theorem q1743 : (Jvm.Cond.code ({ cls := "java/util/PriorityQueue", name := "add", desc := "(Ljava/lang/Object;)Z" } : Jvm.MethodName) prog_73_method_13_code (2 : Nat) (Option.some Jvm.ClassFile.FieldType.boolean)) ∈ lw_all := lw_g (lw_at lw_m7 184 rfl) rfl
theorem q1744 : (Jvm.Cond.methodLink "java/util/PriorityQueue" (89 : Nat) ({ cls := "java/util/PriorityQueue", name := "offer", desc := "(Ljava/lang/Object;)Z" } : Jvm.MethodName)) ∈ lw_all := lw_g (lw_at lw_m7 185 rfl) rfl
theorem q1745 : (Jvm.Cond.instanceMethod ({ cls := "java/util/PriorityQueue", name := "offer", desc := "(Ljava/lang/Object;)Z" } : Jvm.MethodName)) ∈ lw_all := lw_g (lw_at lw_m7 186 rfl) rfl
theorem q1746 : (Jvm.Cond.selects "java/util/PriorityQueue" ({ cls := "java/util/PriorityQueue", name := "offer", desc := "(Ljava/lang/Object;)Z" } : Jvm.MethodName) ({ cls := "java/util/PriorityQueue", name := "offer", desc := "(Ljava/lang/Object;)Z" } : Jvm.MethodName)) ∈ lw_all := lw_g (lw_at lw_m7 187 rfl) rfl
theorem q1747 : (Jvm.Cond.code ({ cls := "java/util/PriorityQueue", name := "offer", desc := "(Ljava/lang/Object;)Z" } : Jvm.MethodName) prog_73_method_14_code (3 : Nat) (Option.some Jvm.ClassFile.FieldType.boolean)) ∈ lw_all := lw_g (lw_at lw_m7 188 rfl) rfl
theorem q1748 : (Jvm.Cond.methodLink "java/util/PriorityQueue" (96 : Nat) ({ cls := "java/util/PriorityQueue", name := "grow", desc := "(I)V" } : Jvm.MethodName)) ∈ lw_all := lw_g (lw_at lw_m7 189 rfl) rfl
theorem q1749 : (Jvm.Cond.privateMethod ({ cls := "java/util/PriorityQueue", name := "grow", desc := "(I)V" } : Jvm.MethodName)) ∈ lw_tbl := lw_at lw_m7 190 rfl
theorem q1750 : (Jvm.Cond.instanceMethod ({ cls := "java/util/PriorityQueue", name := "grow", desc := "(I)V" } : Jvm.MethodName)) ∈ lw_all := lw_g (lw_at lw_m7 191 rfl) rfl
theorem q1751 : (Jvm.Cond.code ({ cls := "java/util/PriorityQueue", name := "grow", desc := "(I)V" } : Jvm.MethodName) prog_73_method_12_code (4 : Nat) (Option.none : Option Jvm.ClassFile.FieldType)) ∈ lw_all := lw_g (lw_at lw_m7 192 rfl) rfl
theorem q1752 : (Jvm.Cond.methodLink "java/util/PriorityQueue" (80 : Nat) ({ cls := "jdk/internal/util/ArraysSupport", name := "newLength", desc := "(III)I" } : Jvm.MethodName)) ∈ lw_all := lw_g (lw_at lw_m7 193 rfl) rfl
theorem q1753 : (Jvm.Cond.methodLink "java/util/PriorityQueue" (86 : Nat) ({ cls := "java/util/Arrays", name := "copyOf", desc := "([Ljava/lang/Object;I)[Ljava/lang/Object;" } : Jvm.MethodName)) ∈ lw_all := lw_g (lw_at lw_m7 194 rfl) rfl
theorem q1754 : (Jvm.Cond.methodLink "java/util/PriorityQueue" (100 : Nat) ({ cls := "java/util/PriorityQueue", name := "siftUp", desc := "(ILjava/lang/Object;)V" } : Jvm.MethodName)) ∈ lw_all := lw_g (lw_at lw_m7 195 rfl) rfl
theorem q1755 : (Jvm.Cond.privateMethod ({ cls := "java/util/PriorityQueue", name := "siftUp", desc := "(ILjava/lang/Object;)V" } : Jvm.MethodName)) ∈ lw_tbl := lw_at lw_m7 196 rfl
theorem q1756 : (Jvm.Cond.instanceMethod ({ cls := "java/util/PriorityQueue", name := "siftUp", desc := "(ILjava/lang/Object;)V" } : Jvm.MethodName)) ∈ lw_all := lw_g (lw_at lw_m7 197 rfl) rfl
theorem q1757 : (Jvm.Cond.code ({ cls := "java/util/PriorityQueue", name := "siftUp", desc := "(ILjava/lang/Object;)V" } : Jvm.MethodName) prog_73_method_27_code (3 : Nat) (Option.none : Option Jvm.ClassFile.FieldType)) ∈ lw_all := lw_g (lw_at lw_m7 198 rfl) rfl
theorem q1758 : (Jvm.Cond.methodLink "java/util/PriorityQueue" (136 : Nat) ({ cls := "java/util/PriorityQueue", name := "siftUpUsingComparator", desc := "(ILjava/lang/Object;[Ljava/lang/Object;Ljava/util/Comparator;)V" } : Jvm.MethodName)) ∈ lw_all := lw_g (lw_at lw_m7 199 rfl) rfl
theorem q1759 : (Jvm.Cond.static ({ cls := "java/util/PriorityQueue", name := "siftUpUsingComparator", desc := "(ILjava/lang/Object;[Ljava/lang/Object;Ljava/util/Comparator;)V" } : Jvm.MethodName)) ∈ lw_all := lw_g (lw_at lw_m7 200 rfl) rfl
theorem q1760 : (Jvm.Cond.code ({ cls := "java/util/PriorityQueue", name := "siftUpUsingComparator", desc := "(ILjava/lang/Object;[Ljava/lang/Object;Ljava/util/Comparator;)V" } : Jvm.MethodName) prog_73_method_29_code (6 : Nat) (Option.none : Option Jvm.ClassFile.FieldType)) ∈ lw_all := lw_g (lw_at lw_m7 201 rfl) rfl
theorem q1761 : (Jvm.Cond.interfaceEntry "java/util/PriorityQueue" (149 : Nat)) ∈ lw_tbl := lw_at lw_m7 202 rfl
theorem q1762 : (Jvm.Cond.methodLink "java/util/PriorityQueue" (149 : Nat) ({ cls := "java/util/Comparator", name := "compare", desc := "(Ljava/lang/Object;Ljava/lang/Object;)I" } : Jvm.MethodName)) ∈ lw_all := lw_g (lw_at lw_m7 203 rfl) rfl
theorem q1776 : (Jvm.Cond.methodLink "java/util/PriorityQueue" (140 : Nat) ({ cls := "java/util/PriorityQueue", name := "siftUpComparable", desc := "(ILjava/lang/Object;[Ljava/lang/Object;)V" } : Jvm.MethodName)) ∈ lw_all := lw_g (lw_at lw_m7 217 rfl) rfl
theorem q1777 : (Jvm.Cond.static ({ cls := "java/util/PriorityQueue", name := "siftUpComparable", desc := "(ILjava/lang/Object;[Ljava/lang/Object;)V" } : Jvm.MethodName)) ∈ lw_all := lw_g (lw_at lw_m7 218 rfl) rfl
theorem q1778 : (Jvm.Cond.code ({ cls := "java/util/PriorityQueue", name := "siftUpComparable", desc := "(ILjava/lang/Object;[Ljava/lang/Object;)V" } : Jvm.MethodName) prog_73_method_28_code (6 : Nat) (Option.none : Option Jvm.ClassFile.FieldType)) ∈ lw_all := lw_g (lw_at lw_m7 219 rfl) rfl
theorem q1779 : (Jvm.Cond.classLink "java/util/PriorityQueue" (144 : Nat) "java/lang/Comparable") ∈ lw_all := lw_g (lw_at lw_m7 220 rfl) rfl
theorem q1780 : (Jvm.Cond.interfaceEntry "java/util/PriorityQueue" (146 : Nat)) ∈ lw_tbl := lw_at lw_m7 221 rfl
theorem q1781 : (Jvm.Cond.methodLink "java/util/PriorityQueue" (146 : Nat) ({ cls := "java/lang/Comparable", name := "compareTo", desc := "(Ljava/lang/Object;)I" } : Jvm.MethodName)) ∈ lw_all := lw_g (lw_at lw_m7 222 rfl) rfl
theorem q1783 : (Jvm.Cond.sameMethod "java/util/PriorityQueue" "java/util/AbstractCollection" "isEmpty" "()Z") ∈ lw_all := lw_g (lw_at lw_m7 224 rfl) rfl
theorem q1785 : (Jvm.Cond.selects "java/util/PriorityQueue" ({ cls := "java/util/PriorityQueue", name := "isEmpty", desc := "()Z" } : Jvm.MethodName) ({ cls := "java/util/AbstractCollection", name := "isEmpty", desc := "()Z" } : Jvm.MethodName)) ∈ lw_all := lw_g (lw_at lw_m7 226 rfl) rfl
theorem q1796 : (Jvm.Cond.selects "java/util/PriorityQueue" ({ cls := "java/util/AbstractCollection", name := "size", desc := "()I" } : Jvm.MethodName) ({ cls := "java/util/PriorityQueue", name := "size", desc := "()I" } : Jvm.MethodName)) ∈ lw_all := lw_g (lw_at lw_m7 237 rfl) rfl
theorem q1797 : (Jvm.Cond.instanceMethod ({ cls := "java/util/PriorityQueue", name := "size", desc := "()I" } : Jvm.MethodName)) ∈ lw_all := lw_g (lw_at lw_m7 238 rfl) rfl
theorem q1798 : (Jvm.Cond.code ({ cls := "java/util/PriorityQueue", name := "size", desc := "()I" } : Jvm.MethodName) prog_73_method_23_code (1 : Nat) (Option.some Jvm.ClassFile.FieldType.int)) ∈ lw_all := lw_g (lw_at lw_m7 239 rfl) rfl
theorem q1815 : (Jvm.Cond.instanceMethod ({ cls := "java/util/PriorityQueue", name := "poll", desc := "()Ljava/lang/Object;" } : Jvm.MethodName)) ∈ lw_all := lw_g (lw_at lw_m8 16 rfl) rfl
theorem q1816 : (Jvm.Cond.selects "java/util/PriorityQueue" ({ cls := "java/util/PriorityQueue", name := "poll", desc := "()Ljava/lang/Object;" } : Jvm.MethodName) ({ cls := "java/util/PriorityQueue", name := "poll", desc := "()Ljava/lang/Object;" } : Jvm.MethodName)) ∈ lw_all := lw_g (lw_at lw_m8 17 rfl) rfl
theorem q1817 : (Jvm.Cond.code ({ cls := "java/util/PriorityQueue", name := "poll", desc := "()Ljava/lang/Object;" } : Jvm.MethodName) prog_73_method_25_code (6 : Nat) (Option.some (Jvm.ClassFile.FieldType.object "java/lang/Object"))) ∈ lw_all := lw_g (lw_at lw_m8 18 rfl) rfl
theorem q1818 : (Jvm.Cond.methodLink "java/util/PriorityQueue" (125 : Nat) ({ cls := "java/util/PriorityQueue", name := "siftDownComparable", desc := "(ILjava/lang/Object;[Ljava/lang/Object;I)V" } : Jvm.MethodName)) ∈ lw_all := lw_g (lw_at lw_m8 19 rfl) rfl
theorem q1819 : (Jvm.Cond.static ({ cls := "java/util/PriorityQueue", name := "siftDownComparable", desc := "(ILjava/lang/Object;[Ljava/lang/Object;I)V" } : Jvm.MethodName)) ∈ lw_all := lw_g (lw_at lw_m8 20 rfl) rfl
theorem q1820 : (Jvm.Cond.code ({ cls := "java/util/PriorityQueue", name := "siftDownComparable", desc := "(ILjava/lang/Object;[Ljava/lang/Object;I)V" } : Jvm.MethodName) prog_73_method_31_code (9 : Nat) (Option.none : Option Jvm.ClassFile.FieldType)) ∈ lw_all := lw_g (lw_at lw_m8 21 rfl) rfl
theorem q1821 : (Jvm.Cond.methodLink "java/util/PriorityQueue" (129 : Nat) ({ cls := "java/util/PriorityQueue", name := "siftDownUsingComparator", desc := "(ILjava/lang/Object;[Ljava/lang/Object;ILjava/util/Comparator;)V" } : Jvm.MethodName)) ∈ lw_all := lw_g (lw_at lw_m8 22 rfl) rfl
theorem q1822 : (Jvm.Cond.static ({ cls := "java/util/PriorityQueue", name := "siftDownUsingComparator", desc := "(ILjava/lang/Object;[Ljava/lang/Object;ILjava/util/Comparator;)V" } : Jvm.MethodName)) ∈ lw_all := lw_g (lw_at lw_m8 23 rfl) rfl
theorem q1823 : (Jvm.Cond.code ({ cls := "java/util/PriorityQueue", name := "siftDownUsingComparator", desc := "(ILjava/lang/Object;[Ljava/lang/Object;ILjava/util/Comparator;)V" } : Jvm.MethodName) prog_73_method_32_code (9 : Nat) (Option.none : Option Jvm.ClassFile.FieldType)) ∈ lw_all := lw_g (lw_at lw_m8 24 rfl) rfl
theorem q1927 : (Jvm.Cond.castable "java/util/PriorityQueue" "java/util/Collection") ∈ lw_tbl := lw_at lw_m8 128 rfl
theorem q1928 : (Jvm.Cond.selects "java/util/PriorityQueue" ({ cls := "java/util/Collection", name := "toArray", desc := "()[Ljava/lang/Object;" } : Jvm.MethodName) ({ cls := "java/util/PriorityQueue", name := "toArray", desc := "()[Ljava/lang/Object;" } : Jvm.MethodName)) ∈ lw_all := lw_g (lw_at lw_m8 129 rfl) rfl
theorem q1929 : (Jvm.Cond.unhidden "java/util/PriorityQueue" "toArray" "()[Ljava/lang/Object;") ∈ lw_tbl := lw_at lw_m8 130 rfl
theorem q1930 : (Jvm.Cond.instanceMethod ({ cls := "java/util/PriorityQueue", name := "toArray", desc := "()[Ljava/lang/Object;" } : Jvm.MethodName)) ∈ lw_all := lw_g (lw_at lw_m8 131 rfl) rfl
theorem q1931 : (Jvm.Cond.publicMethod ({ cls := "java/util/PriorityQueue", name := "toArray", desc := "()[Ljava/lang/Object;" } : Jvm.MethodName)) ∈ lw_tbl := lw_at lw_m8 132 rfl
theorem q1932 : (Jvm.Cond.code ({ cls := "java/util/PriorityQueue", name := "toArray", desc := "()[Ljava/lang/Object;" } : Jvm.MethodName) prog_73_method_20_code (1 : Nat) (Option.some (Jvm.ClassFile.FieldType.array (Jvm.ClassFile.FieldType.object "java/lang/Object")))) ∈ lw_all := lw_g (lw_at lw_m8 133 rfl) rfl
theorem q1946 : (Jvm.Cond.selects "java/util/PriorityQueue" ({ cls := "java/util/AbstractCollection", name := "iterator", desc := "()Ljava/util/Iterator;" } : Jvm.MethodName) ({ cls := "java/util/PriorityQueue", name := "iterator", desc := "()Ljava/util/Iterator;" } : Jvm.MethodName)) ∈ lw_all := lw_g (lw_at lw_m8 147 rfl) rfl
theorem q1947 : (Jvm.Cond.instanceMethod ({ cls := "java/util/PriorityQueue", name := "iterator", desc := "()Ljava/util/Iterator;" } : Jvm.MethodName)) ∈ lw_all := lw_g (lw_at lw_m8 148 rfl) rfl
theorem q1948 : (Jvm.Cond.code ({ cls := "java/util/PriorityQueue", name := "iterator", desc := "()Ljava/util/Iterator;" } : Jvm.MethodName) prog_73_method_22_code (1 : Nat) (Option.some (Jvm.ClassFile.FieldType.object "java/util/Iterator"))) ∈ lw_all := lw_g (lw_at lw_m8 149 rfl) rfl
theorem q1949 : (Jvm.Cond.classLink "java/util/PriorityQueue" (121 : Nat) "java/util/PriorityQueue$Itr") ∈ lw_all := lw_g (lw_at lw_m8 150 rfl) rfl
theorem q1951 : (Jvm.Cond.methodLink "java/util/PriorityQueue" (123 : Nat) ({ cls := "java/util/PriorityQueue$Itr", name := "<init>", desc := "(Ljava/util/PriorityQueue;)V" } : Jvm.MethodName)) ∈ lw_all := lw_g (lw_at lw_m8 152 rfl) rfl
theorem q2038 : (Jvm.Cond.selects "java/util/PriorityQueue" ({ cls := "java/util/Collection", name := "iterator", desc := "()Ljava/util/Iterator;" } : Jvm.MethodName) ({ cls := "java/util/PriorityQueue", name := "iterator", desc := "()Ljava/util/Iterator;" } : Jvm.MethodName)) ∈ lw_all := lw_g (lw_at lw_m8 239 rfl) rfl
theorem q2039 : (Jvm.Cond.unhidden "java/util/PriorityQueue" "iterator" "()Ljava/util/Iterator;") ∈ lw_tbl := lw_at lw_m9 0 rfl
theorem q2040 : (Jvm.Cond.publicMethod ({ cls := "java/util/PriorityQueue", name := "iterator", desc := "()Ljava/util/Iterator;" } : Jvm.MethodName)) ∈ lw_tbl := lw_at lw_m9 1 rfl
theorem q2195 : (Jvm.Cond.selects "java/util/PriorityQueue" ({ cls := "java/util/AbstractCollection", name := "add", desc := "(Ljava/lang/Object;)Z" } : Jvm.MethodName) ({ cls := "java/util/PriorityQueue", name := "add", desc := "(Ljava/lang/Object;)Z" } : Jvm.MethodName)) ∈ lw_all := lw_g (lw_at lw_m9 156 rfl) rfl
theorem q3825 : (Jvm.Cond.castable "java/util/PriorityQueue" "java/lang/Object") ∈ lw_tbl := lw_at lw_m16 106 rfl
theorem in_J41 : ∀ w ∈ wsJ410, w ∈ lw_all := lw_in wsJ410 [1729, 1731, 1733, 1735] (by decide +kernel) (by decide +kernel)

/-! java/util/TreeSet -/
set_option maxRecDepth 100000
def RJ42 : String := "java/util/TreeSet"
def TJ42 : u_T := fun k => match k with
  | _ => ("java/util/TreeSet", "m", "Ljava/util/NavigableMap;", false)
def tyJ42 : Nat → FieldType := fun k => match k with
  | _ => .object "java/util/NavigableMap"
abbrev wsJ420 : List Cond := u_ws RJ42 TJ42 1
theorem nmJ42 : ∀ a, a < 1 → ∀ b, b < 1 → a ≠ b → (TJ42 a).2.1 ≠ (TJ42 b).2.1 := by decide +kernel
theorem tyJ42_ok : ∀ k, k < 1 → parseFieldDescriptor (TJ42 k).2.2.1 = some (tyJ42 k) := by decide +kernel
abbrev cJ42_iterator : ByteArray := prog_89_method_6_code
def yJ42_iterator : MethodName := ⟨RJ42, "iterator", "()Ljava/util/Iterator;"⟩
def dkwJ42_iterator_0 : List UInt8 := [42, 180, 0, 7, 185, 0, 34, 1, 0, 185, 0, 40, 1, 0, 176]
abbrev dktJ42_iterator_0 : List UInt8 := dkwJ42_iterator_0 ++ []
theorem dksJ42_iterator_0 : cJ42_iterator.data.toList.drop 0 = dktJ42_iterator_0 := by decide +kernel
theorem dJ42_iterator_0 : decode cJ42_iterator 0 = .ok (.aload_n 0, 1) := dk_42 (dk_at dksJ42_iterator_0 0 rfl rfl)
theorem dJ42_iterator_1 : decode cJ42_iterator 1 = .ok (.getfield 7, 3) := dk_180 0 7 (dk_at dksJ42_iterator_0 1 rfl rfl)
theorem dJ42_iterator_4 : decode cJ42_iterator 4 = .ok (.invokeinterface 34 1, 5) := by decide +kernel
theorem dJ42_iterator_9 : decode cJ42_iterator 9 = .ok (.invokeinterface 40 1, 5) := by decide +kernel
theorem dJ42_iterator_14 : decode cJ42_iterator 14 = .ok (.areturn, 1) := dk_176 (dk_at dksJ42_iterator_0 14 rfl rfl)
abbrev cJ42_size : ByteArray := prog_89_method_9_code
def yJ42_size : MethodName := ⟨RJ42, "size", "()I"⟩
def dkwJ42_size_0 : List UInt8 := [42, 180, 0, 7, 185, 0, 53, 1, 0, 172]
abbrev dktJ42_size_0 : List UInt8 := dkwJ42_size_0 ++ []
theorem dksJ42_size_0 : cJ42_size.data.toList.drop 0 = dktJ42_size_0 := by decide +kernel
theorem dJ42_size_0 : decode cJ42_size 0 = .ok (.aload_n 0, 1) := dk_42 (dk_at dksJ42_size_0 0 rfl rfl)
theorem dJ42_size_1 : decode cJ42_size 1 = .ok (.getfield 7, 3) := dk_180 0 7 (dk_at dksJ42_size_0 1 rfl rfl)
theorem dJ42_size_4 : decode cJ42_size 4 = .ok (.invokeinterface 53 1, 5) := by decide +kernel
theorem dJ42_size_9 : decode cJ42_size 9 = .ok (.ireturn, 1) := dk_172 (dk_at dksJ42_size_0 9 rfl rfl)
abbrev cJ42_add : ByteArray := prog_89_method_12_code
def yJ42_add : MethodName := ⟨RJ42, "add", "(Ljava/lang/Object;)Z"⟩
def dkwJ42_add_0 : List UInt8 := [42, 180, 0, 7, 43, 178, 0, 65, 185, 0, 69, 3, 0, 199, 0, 7, 4, 167, 0, 4, 3, 172]
abbrev dktJ42_add_0 : List UInt8 := dkwJ42_add_0 ++ []
theorem dksJ42_add_0 : cJ42_add.data.toList.drop 0 = dktJ42_add_0 := by decide +kernel
theorem dJ42_add_0 : decode cJ42_add 0 = .ok (.aload_n 0, 1) := dk_42 (dk_at dksJ42_add_0 0 rfl rfl)
theorem dJ42_add_1 : decode cJ42_add 1 = .ok (.getfield 7, 3) := dk_180 0 7 (dk_at dksJ42_add_0 1 rfl rfl)
theorem dJ42_add_4 : decode cJ42_add 4 = .ok (.aload_n 1, 1) := dk_43 (dk_at dksJ42_add_0 4 rfl rfl)
theorem dJ42_add_5 : decode cJ42_add 5 = .ok (.getstatic 65, 3) := dk_178 0 65 (dk_at dksJ42_add_0 5 rfl rfl)
theorem dJ42_add_8 : decode cJ42_add 8 = .ok (.invokeinterface 69 3, 5) := by decide +kernel
theorem dJ42_add_13 : decode cJ42_add 13 = .ok (.ifnonnull 7, 3) := dk_199 0 7 (dk_at dksJ42_add_0 13 rfl rfl)
theorem dJ42_add_16 : decode cJ42_add 16 = .ok (.iconst 1, 1) := dk_4 (dk_at dksJ42_add_0 16 rfl rfl)
theorem dJ42_add_17 : decode cJ42_add 17 = .ok (.goto 4, 3) := dk_167 0 4 (dk_at dksJ42_add_0 17 rfl rfl)
theorem dJ42_add_20 : decode cJ42_add 20 = .ok (.iconst 0, 1) := dk_3 (dk_at dksJ42_add_0 20 rfl rfl)
theorem dJ42_add_21 : decode cJ42_add 21 = .ok (.ireturn, 1) := dk_172 (dk_at dksJ42_add_0 21 rfl rfl)
abbrev cJ42_init : ByteArray := prog_89_method_2_code
def yJ42_init : MethodName := ⟨RJ42, "<init>", "()V"⟩
def dkwJ42_init_0 : List UInt8 := [42, 187, 0, 13, 89, 183, 0, 15, 183, 0, 16, 177]
abbrev dktJ42_init_0 : List UInt8 := dkwJ42_init_0 ++ []
theorem dksJ42_init_0 : cJ42_init.data.toList.drop 0 = dktJ42_init_0 := by decide +kernel
theorem dJ42_init_0 : decode cJ42_init 0 = .ok (.aload_n 0, 1) := dk_42 (dk_at dksJ42_init_0 0 rfl rfl)
theorem dJ42_init_1 : decode cJ42_init 1 = .ok (.new 13, 3) := dk_187 0 13 (dk_at dksJ42_init_0 1 rfl rfl)
theorem dJ42_init_4 : decode cJ42_init 4 = .ok (.dup, 1) := dk_89 (dk_at dksJ42_init_0 4 rfl rfl)
theorem dJ42_init_5 : decode cJ42_init 5 = .ok (.invokespecial 15, 3) := dk_183 0 15 (dk_at dksJ42_init_0 5 rfl rfl)
theorem dJ42_init_8 : decode cJ42_init 8 = .ok (.invokespecial 16, 3) := dk_183 0 16 (dk_at dksJ42_init_0 8 rfl rfl)
theorem dJ42_init_11 : decode cJ42_init 11 = .ok (.return_, 1) := dk_177 (dk_at dksJ42_init_0 11 rfl rfl)
abbrev cJ42_init_2 : ByteArray := prog_89_method_1_code
def yJ42_init_2 : MethodName := ⟨RJ42, "<init>", "(Ljava/util/NavigableMap;)V"⟩
def dkwJ42_init_2_0 : List UInt8 := [42, 183, 0, 1, 42, 43, 181, 0, 7, 177]
abbrev dktJ42_init_2_0 : List UInt8 := dkwJ42_init_2_0 ++ []
theorem dksJ42_init_2_0 : cJ42_init_2.data.toList.drop 0 = dktJ42_init_2_0 := by decide +kernel
theorem dJ42_init_2_0 : decode cJ42_init_2 0 = .ok (.aload_n 0, 1) := dk_42 (dk_at dksJ42_init_2_0 0 rfl rfl)
theorem dJ42_init_2_1 : decode cJ42_init_2 1 = .ok (.invokespecial 1, 3) := dk_183 0 1 (dk_at dksJ42_init_2_0 1 rfl rfl)
theorem dJ42_init_2_4 : decode cJ42_init_2 4 = .ok (.aload_n 0, 1) := dk_42 (dk_at dksJ42_init_2_0 4 rfl rfl)
theorem dJ42_init_2_5 : decode cJ42_init_2 5 = .ok (.aload_n 1, 1) := dk_43 (dk_at dksJ42_init_2_0 5 rfl rfl)
theorem dJ42_init_2_6 : decode cJ42_init_2 6 = .ok (.putfield 7, 3) := dk_181 0 7 (dk_at dksJ42_init_2_0 6 rfl rfl)
theorem dJ42_init_2_9 : decode cJ42_init_2 9 = .ok (.return_, 1) := dk_177 (dk_at dksJ42_init_2_0 9 rfl rfl)
theorem q170 : (Jvm.Cond.initialized "java/util/TreeSet") ∈ lw_all := lw_g (lw_at lw_m1 51 rfl) rfl
theorem q883 : (Jvm.Cond.selects "java/util/TreeSet" ({ cls := "java/lang/Object", name := "getClass", desc := "()Ljava/lang/Class;" } : Jvm.MethodName) ({ cls := "java/lang/Object", name := "getClass", desc := "()Ljava/lang/Class;" } : Jvm.MethodName)) ∈ lw_all := lw_g (lw_at lw_m4 44 rfl) rfl
theorem q1036 : (Jvm.Cond.castable "java/util/TreeSet" "java/util/Set") ∈ lw_tbl := lw_at lw_m4 197 rfl
theorem q1037 : (Jvm.Cond.selects "java/util/TreeSet" ({ cls := "java/util/Set", name := "iterator", desc := "()Ljava/util/Iterator;" } : Jvm.MethodName) ({ cls := "java/util/TreeSet", name := "iterator", desc := "()Ljava/util/Iterator;" } : Jvm.MethodName)) ∈ lw_all := lw_g (lw_at lw_m4 198 rfl) rfl
theorem q1038 : (Jvm.Cond.unhidden "java/util/TreeSet" "iterator" "()Ljava/util/Iterator;") ∈ lw_tbl := lw_at lw_m4 199 rfl
theorem q1039 : (Jvm.Cond.instanceMethod ({ cls := "java/util/TreeSet", name := "iterator", desc := "()Ljava/util/Iterator;" } : Jvm.MethodName)) ∈ lw_all := lw_g (lw_at lw_m4 200 rfl) rfl
theorem q1040 : (Jvm.Cond.publicMethod ({ cls := "java/util/TreeSet", name := "iterator", desc := "()Ljava/util/Iterator;" } : Jvm.MethodName)) ∈ lw_tbl := lw_at lw_m4 201 rfl
theorem q1041 : (Jvm.Cond.code ({ cls := "java/util/TreeSet", name := "iterator", desc := "()Ljava/util/Iterator;" } : Jvm.MethodName) prog_89_method_6_code (1 : Nat) (Option.some (Jvm.ClassFile.FieldType.object "java/util/Iterator"))) ∈ lw_all := lw_g (lw_at lw_m4 202 rfl) rfl
theorem q1042 : (Jvm.Cond.interfaceEntry "java/util/TreeSet" (34 : Nat)) ∈ lw_tbl := lw_at lw_m4 203 rfl
theorem q1043 : (Jvm.Cond.methodLink "java/util/TreeSet" (34 : Nat) ({ cls := "java/util/NavigableMap", name := "navigableKeySet", desc := "()Ljava/util/NavigableSet;" } : Jvm.MethodName)) ∈ lw_all := lw_g (lw_at lw_m4 204 rfl) rfl
theorem q1062 : (Jvm.Cond.interfaceEntry "java/util/TreeSet" (40 : Nat)) ∈ lw_tbl := lw_at lw_m4 223 rfl
theorem q1063 : (Jvm.Cond.methodLink "java/util/TreeSet" (40 : Nat) ({ cls := "java/util/NavigableSet", name := "iterator", desc := "()Ljava/util/Iterator;" } : Jvm.MethodName)) ∈ lw_all := lw_g (lw_at lw_m4 224 rfl) rfl
theorem q1068 : (Jvm.Cond.castable "java/util/TreeSet" "java/util/NavigableSet") ∈ lw_tbl := lw_at lw_m4 229 rfl
theorem q1069 : (Jvm.Cond.selects "java/util/TreeSet" ({ cls := "java/util/NavigableSet", name := "iterator", desc := "()Ljava/util/Iterator;" } : Jvm.MethodName) ({ cls := "java/util/TreeSet", name := "iterator", desc := "()Ljava/util/Iterator;" } : Jvm.MethodName)) ∈ lw_all := lw_g (lw_at lw_m4 230 rfl) rfl
theorem q1810 : (Jvm.Cond.selects "java/util/TreeSet" ({ cls := "java/util/AbstractCollection", name := "size", desc := "()I" } : Jvm.MethodName) ({ cls := "java/util/TreeSet", name := "size", desc := "()I" } : Jvm.MethodName)) ∈ lw_all := lw_g (lw_at lw_m8 11 rfl) rfl
theorem q1811 : (Jvm.Cond.instanceMethod ({ cls := "java/util/TreeSet", name := "size", desc := "()I" } : Jvm.MethodName)) ∈ lw_all := lw_g (lw_at lw_m8 12 rfl) rfl
theorem q1812 : (Jvm.Cond.code ({ cls := "java/util/TreeSet", name := "size", desc := "()I" } : Jvm.MethodName) prog_89_method_9_code (1 : Nat) (Option.some Jvm.ClassFile.FieldType.int)) ∈ lw_all := lw_g (lw_at lw_m8 13 rfl) rfl
theorem q1813 : (Jvm.Cond.interfaceEntry "java/util/TreeSet" (53 : Nat)) ∈ lw_tbl := lw_at lw_m8 14 rfl
theorem q1975 : (Jvm.Cond.selects "java/util/TreeSet" ({ cls := "java/util/AbstractCollection", name := "iterator", desc := "()Ljava/util/Iterator;" } : Jvm.MethodName) ({ cls := "java/util/TreeSet", name := "iterator", desc := "()Ljava/util/Iterator;" } : Jvm.MethodName)) ∈ lw_all := lw_g (lw_at lw_m8 176 rfl) rfl
theorem q1985 : (Jvm.Cond.castable "java/util/TreeSet" "java/util/Collection") ∈ lw_tbl := lw_at lw_m8 186 rfl
theorem q1986 : (Jvm.Cond.selects "java/util/TreeSet" ({ cls := "java/util/Collection", name := "toArray", desc := "()[Ljava/lang/Object;" } : Jvm.MethodName) ({ cls := "java/util/AbstractCollection", name := "toArray", desc := "()[Ljava/lang/Object;" } : Jvm.MethodName)) ∈ lw_all := lw_g (lw_at lw_m8 187 rfl) rfl
theorem q1987 : (Jvm.Cond.unhidden "java/util/TreeSet" "toArray" "()[Ljava/lang/Object;") ∈ lw_tbl := lw_at lw_m8 188 rfl
theorem q2042 : (Jvm.Cond.selects "java/util/TreeSet" ({ cls := "java/util/Collection", name := "iterator", desc := "()Ljava/util/Iterator;" } : Jvm.MethodName) ({ cls := "java/util/TreeSet", name := "iterator", desc := "()Ljava/util/Iterator;" } : Jvm.MethodName)) ∈ lw_all := lw_g (lw_at lw_m9 3 rfl) rfl
theorem q2197 : (Jvm.Cond.selects "java/util/TreeSet" ({ cls := "java/util/AbstractCollection", name := "add", desc := "(Ljava/lang/Object;)Z" } : Jvm.MethodName) ({ cls := "java/util/TreeSet", name := "add", desc := "(Ljava/lang/Object;)Z" } : Jvm.MethodName)) ∈ lw_all := lw_g (lw_at lw_m9 158 rfl) rfl
theorem q2198 : (Jvm.Cond.instanceMethod ({ cls := "java/util/TreeSet", name := "add", desc := "(Ljava/lang/Object;)Z" } : Jvm.MethodName)) ∈ lw_all := lw_g (lw_at lw_m9 159 rfl) rfl
theorem q2199 : (Jvm.Cond.code ({ cls := "java/util/TreeSet", name := "add", desc := "(Ljava/lang/Object;)Z" } : Jvm.MethodName) prog_89_method_12_code (2 : Nat) (Option.some Jvm.ClassFile.FieldType.boolean)) ∈ lw_all := lw_g (lw_at lw_m9 160 rfl) rfl
theorem q2200 : (Jvm.Cond.fieldLink "java/util/TreeSet" (65 : Nat) "java/util/TreeSet" "PRESENT" "Ljava/lang/Object;") ∈ lw_all := lw_g (lw_at lw_m9 161 rfl) rfl
theorem q2201 : (Jvm.Cond.laysStatic "java/util/TreeSet" "PRESENT" "Ljava/lang/Object;") ∈ lw_tbl := lw_at lw_m9 162 rfl
theorem q2202 : (Jvm.Cond.interfaceEntry "java/util/TreeSet" (69 : Nat)) ∈ lw_tbl := lw_at lw_m9 163 rfl
theorem q3034 : (Jvm.Cond.instantiable "java/util/TreeSet" (1 : Nat)) ∈ lw_all := lw_g (lw_at lw_m13 35 rfl) rfl
theorem q3036 : (Jvm.Cond.instanceMethod ({ cls := "java/util/TreeSet", name := "<init>", desc := "()V" } : Jvm.MethodName)) ∈ lw_all := lw_g (lw_at lw_m13 37 rfl) rfl
theorem q3037 : (Jvm.Cond.code ({ cls := "java/util/TreeSet", name := "<init>", desc := "()V" } : Jvm.MethodName) prog_89_method_2_code (1 : Nat) (Option.none : Option Jvm.ClassFile.FieldType)) ∈ lw_all := lw_g (lw_at lw_m13 38 rfl) rfl
theorem q3038 : (Jvm.Cond.classLink "java/util/TreeSet" (13 : Nat) "java/util/TreeMap") ∈ lw_all := lw_g (lw_at lw_m13 39 rfl) rfl
theorem q3039 : (Jvm.Cond.methodLink "java/util/TreeSet" (15 : Nat) ({ cls := "java/util/TreeMap", name := "<init>", desc := "()V" } : Jvm.MethodName)) ∈ lw_all := lw_g (lw_at lw_m13 40 rfl) rfl
theorem q3066 : (Jvm.Cond.methodLink "java/util/TreeSet" (16 : Nat) ({ cls := "java/util/TreeSet", name := "<init>", desc := "(Ljava/util/NavigableMap;)V" } : Jvm.MethodName)) ∈ lw_all := lw_g (lw_at lw_m13 67 rfl) rfl
theorem q3067 : (Jvm.Cond.instanceMethod ({ cls := "java/util/TreeSet", name := "<init>", desc := "(Ljava/util/NavigableMap;)V" } : Jvm.MethodName)) ∈ lw_all := lw_g (lw_at lw_m13 68 rfl) rfl
theorem q3068 : (Jvm.Cond.code ({ cls := "java/util/TreeSet", name := "<init>", desc := "(Ljava/util/NavigableMap;)V" } : Jvm.MethodName) prog_89_method_1_code (2 : Nat) (Option.none : Option Jvm.ClassFile.FieldType)) ∈ lw_all := lw_g (lw_at lw_m13 69 rfl) rfl
theorem q3069 : (Jvm.Cond.methodLink "java/util/TreeSet" (1 : Nat) ({ cls := "java/util/AbstractSet", name := "<init>", desc := "()V" } : Jvm.MethodName)) ∈ lw_all := lw_g (lw_at lw_m13 70 rfl) rfl
theorem q3070 : (Jvm.Cond.fieldLink "java/util/TreeSet" (7 : Nat) "java/util/TreeSet" "m" "Ljava/util/NavigableMap;") ∈ lw_all := lw_g (lw_at lw_m13 71 rfl) rfl
theorem q3071 : (Jvm.Cond.lays "java/util/TreeSet" "java/util/TreeSet" "m" "Ljava/util/NavigableMap;") ∈ lw_all := lw_g (lw_at lw_m13 72 rfl) rfl
theorem q3072 : (Jvm.Cond.soleField "java/util/TreeSet" "m") ∈ lw_all := lw_g (lw_at lw_m13 73 rfl) rfl
theorem q3073 : (Jvm.Cond.superclass "java/util/TreeSet" "java/util/AbstractSet") ∈ lw_all := lw_g (lw_at lw_m13 74 rfl) rfl
theorem q3783 : (Jvm.Cond.selects "java/util/TreeSet" ({ cls := "java/util/TreeSet", name := "add", desc := "(Ljava/lang/Object;)Z" } : Jvm.MethodName) ({ cls := "java/util/TreeSet", name := "add", desc := "(Ljava/lang/Object;)Z" } : Jvm.MethodName)) ∈ lw_all := lw_g (lw_at lw_m16 64 rfl) rfl
theorem q3784 : (Jvm.Cond.selects "java/util/TreeSet" ({ cls := "java/util/TreeSet", name := "size", desc := "()I" } : Jvm.MethodName) ({ cls := "java/util/TreeSet", name := "size", desc := "()I" } : Jvm.MethodName)) ∈ lw_all := lw_g (lw_at lw_m16 65 rfl) rfl
theorem q3823 : (Jvm.Cond.castable "java/util/TreeSet" "java/lang/Object") ∈ lw_tbl := lw_at lw_m16 104 rfl
theorem in_J42 : ∀ w ∈ wsJ420, w ∈ lw_all := lw_in wsJ420 [3071] (by decide +kernel) (by decide +kernel)

/-! java/util/TreeMap$Entry -/
set_option maxRecDepth 100000
def RJ43 : String := "java/util/TreeMap$Entry"
def TJ43 : u_T := fun k => match k with
  | 0 => ("java/util/TreeMap$Entry", "key", "Ljava/lang/Object;", false)
  | 1 => ("java/util/TreeMap$Entry", "value", "Ljava/lang/Object;", false)
  | 2 => ("java/util/TreeMap$Entry", "left", "Ljava/util/TreeMap$Entry;", false)
  | 3 => ("java/util/TreeMap$Entry", "right", "Ljava/util/TreeMap$Entry;", false)
  | 4 => ("java/util/TreeMap$Entry", "parent", "Ljava/util/TreeMap$Entry;", false)
  | _ => ("java/util/TreeMap$Entry", "color", "Z", false)
def tyJ43 : Nat → FieldType := fun k => match k with
  | 0 => .object "java/lang/Object"
  | 1 => .object "java/lang/Object"
  | 2 => .object "java/util/TreeMap$Entry"
  | 3 => .object "java/util/TreeMap$Entry"
  | 4 => .object "java/util/TreeMap$Entry"
  | _ => .boolean
abbrev wsJ430 : List Cond := u_ws RJ43 TJ43 6
theorem nmJ43 : ∀ a, a < 6 → ∀ b, b < 6 → a ≠ b → (TJ43 a).2.1 ≠ (TJ43 b).2.1 := by decide +kernel
theorem tyJ43_ok : ∀ k, k < 6 → parseFieldDescriptor (TJ43 k).2.2.1 = some (tyJ43 k) := by decide +kernel
abbrev cJ43_init : ByteArray := prog_84_method_1_code
def yJ43_init : MethodName := ⟨RJ43, "<init>", "(Ljava/lang/Object;Ljava/lang/Object;Ljava/util/TreeMap$Entry;)V"⟩
def dkwJ43_init_1 : List UInt8 := [177]
abbrev dktJ43_init_1 : List UInt8 := dkwJ43_init_1 ++ []
def dkwJ43_init_0 : List UInt8 := [42, 183, 0, 3, 42, 4, 181, 0, 9, 42, 43, 181, 0, 15, 42, 44, 181, 0, 19, 42, 45, 181, 0, 22]
abbrev dktJ43_init_0 : List UInt8 := dkwJ43_init_0 ++ dktJ43_init_1
theorem dksJ43_init_0 : cJ43_init.data.toList.drop 0 = dktJ43_init_0 := by decide +kernel
theorem dksJ43_init_1 : cJ43_init.data.toList.drop 24 = dktJ43_init_1 := dk_seg dksJ43_init_0 24 rfl rfl
theorem dJ43_init_0 : decode cJ43_init 0 = .ok (.aload_n 0, 1) := dk_42 (dk_at dksJ43_init_0 0 rfl rfl)
theorem dJ43_init_1 : decode cJ43_init 1 = .ok (.invokespecial 3, 3) := dk_183 0 3 (dk_at dksJ43_init_0 1 rfl rfl)
theorem dJ43_init_4 : decode cJ43_init 4 = .ok (.aload_n 0, 1) := dk_42 (dk_at dksJ43_init_0 4 rfl rfl)
theorem dJ43_init_5 : decode cJ43_init 5 = .ok (.iconst 1, 1) := dk_4 (dk_at dksJ43_init_0 5 rfl rfl)
theorem dJ43_init_6 : decode cJ43_init 6 = .ok (.putfield 9, 3) := dk_181 0 9 (dk_at dksJ43_init_0 6 rfl rfl)
theorem dJ43_init_9 : decode cJ43_init 9 = .ok (.aload_n 0, 1) := dk_42 (dk_at dksJ43_init_0 9 rfl rfl)
theorem dJ43_init_10 : decode cJ43_init 10 = .ok (.aload_n 1, 1) := dk_43 (dk_at dksJ43_init_0 10 rfl rfl)
theorem dJ43_init_11 : decode cJ43_init 11 = .ok (.putfield 15, 3) := dk_181 0 15 (dk_at dksJ43_init_0 11 rfl rfl)
theorem dJ43_init_14 : decode cJ43_init 14 = .ok (.aload_n 0, 1) := dk_42 (dk_at dksJ43_init_0 14 rfl rfl)
theorem dJ43_init_15 : decode cJ43_init 15 = .ok (.aload_n 2, 1) := dk_44 (dk_at dksJ43_init_0 15 rfl rfl)
theorem dJ43_init_16 : decode cJ43_init 16 = .ok (.putfield 19, 3) := dk_181 0 19 (dk_at dksJ43_init_0 16 rfl rfl)
theorem dJ43_init_19 : decode cJ43_init 19 = .ok (.aload_n 0, 1) := dk_42 (dk_at dksJ43_init_0 19 rfl rfl)
theorem dJ43_init_20 : decode cJ43_init 20 = .ok (.aload_n 3, 1) := dk_45 (dk_at dksJ43_init_0 20 rfl rfl)
theorem dJ43_init_21 : decode cJ43_init 21 = .ok (.putfield 22, 3) := dk_181 0 22 (dk_at dksJ43_init_0 21 rfl rfl)
theorem dJ43_init_24 : decode cJ43_init 24 = .ok (.return_, 1) := dk_177 (dk_at dksJ43_init_1 0 rfl rfl)
theorem q171 : (Jvm.Cond.initialized "java/util/TreeMap$Entry") ∈ lw_all := lw_g (lw_at lw_m1 52 rfl) rfl
theorem q880 : (Jvm.Cond.selects "java/util/TreeMap$Entry" ({ cls := "java/lang/Object", name := "getClass", desc := "()Ljava/lang/Class;" } : Jvm.MethodName) ({ cls := "java/lang/Object", name := "getClass", desc := "()Ljava/lang/Class;" } : Jvm.MethodName)) ∈ lw_all := lw_g (lw_at lw_m4 41 rfl) rfl
theorem q2229 : (Jvm.Cond.instantiable "java/util/TreeMap$Entry" (6 : Nat)) ∈ lw_all := lw_g (lw_at lw_m9 190 rfl) rfl
theorem q2231 : (Jvm.Cond.instanceMethod ({ cls := "java/util/TreeMap$Entry", name := "<init>", desc := "(Ljava/lang/Object;Ljava/lang/Object;Ljava/util/TreeMap$Entry;)V" } : Jvm.MethodName)) ∈ lw_all := lw_g (lw_at lw_m9 192 rfl) rfl
theorem q2232 : (Jvm.Cond.code ({ cls := "java/util/TreeMap$Entry", name := "<init>", desc := "(Ljava/lang/Object;Ljava/lang/Object;Ljava/util/TreeMap$Entry;)V" } : Jvm.MethodName) prog_84_method_1_code (4 : Nat) (Option.none : Option Jvm.ClassFile.FieldType)) ∈ lw_all := lw_g (lw_at lw_m9 193 rfl) rfl
theorem q2233 : (Jvm.Cond.methodLink "java/util/TreeMap$Entry" (3 : Nat) ({ cls := "java/lang/Object", name := "<init>", desc := "()V" } : Jvm.MethodName)) ∈ lw_all := lw_g (lw_at lw_m9 194 rfl) rfl
theorem q2234 : (Jvm.Cond.fieldLink "java/util/TreeMap$Entry" (15 : Nat) "java/util/TreeMap$Entry" "key" "Ljava/lang/Object;") ∈ lw_all := lw_g (lw_at lw_m9 195 rfl) rfl
theorem q2237 : (Jvm.Cond.fieldLink "java/util/TreeMap$Entry" (19 : Nat) "java/util/TreeMap$Entry" "value" "Ljava/lang/Object;") ∈ lw_all := lw_g (lw_at lw_m9 198 rfl) rfl
theorem q2241 : (Jvm.Cond.fieldLink "java/util/TreeMap$Entry" (22 : Nat) "java/util/TreeMap$Entry" "parent" "Ljava/util/TreeMap$Entry;") ∈ lw_all := lw_g (lw_at lw_m9 202 rfl) rfl
theorem q2243 : (Jvm.Cond.fieldLink "java/util/TreeMap$Entry" (9 : Nat) "java/util/TreeMap$Entry" "color" "Z") ∈ lw_all := lw_g (lw_at lw_m9 204 rfl) rfl
theorem q2245 : (Jvm.Cond.lays "java/util/TreeMap$Entry" "java/util/TreeMap$Entry" "key" "Ljava/lang/Object;") ∈ lw_all := lw_g (lw_at lw_m9 206 rfl) rfl
theorem q2246 : (Jvm.Cond.soleField "java/util/TreeMap$Entry" "key") ∈ lw_all := lw_g (lw_at lw_m9 207 rfl) rfl
theorem q2247 : (Jvm.Cond.lays "java/util/TreeMap$Entry" "java/util/TreeMap$Entry" "value" "Ljava/lang/Object;") ∈ lw_all := lw_g (lw_at lw_m9 208 rfl) rfl
theorem q2248 : (Jvm.Cond.soleField "java/util/TreeMap$Entry" "value") ∈ lw_all := lw_g (lw_at lw_m9 209 rfl) rfl
theorem q2249 : (Jvm.Cond.lays "java/util/TreeMap$Entry" "java/util/TreeMap$Entry" "left" "Ljava/util/TreeMap$Entry;") ∈ lw_all := lw_g (lw_at lw_m9 210 rfl) rfl
theorem q2250 : (Jvm.Cond.soleField "java/util/TreeMap$Entry" "left") ∈ lw_all := lw_g (lw_at lw_m9 211 rfl) rfl
theorem q2251 : (Jvm.Cond.lays "java/util/TreeMap$Entry" "java/util/TreeMap$Entry" "right" "Ljava/util/TreeMap$Entry;") ∈ lw_all := lw_g (lw_at lw_m9 212 rfl) rfl
theorem q2252 : (Jvm.Cond.soleField "java/util/TreeMap$Entry" "right") ∈ lw_all := lw_g (lw_at lw_m9 213 rfl) rfl
theorem q2253 : (Jvm.Cond.lays "java/util/TreeMap$Entry" "java/util/TreeMap$Entry" "parent" "Ljava/util/TreeMap$Entry;") ∈ lw_all := lw_g (lw_at lw_m9 214 rfl) rfl
theorem q2254 : (Jvm.Cond.soleField "java/util/TreeMap$Entry" "parent") ∈ lw_all := lw_g (lw_at lw_m9 215 rfl) rfl
theorem q2255 : (Jvm.Cond.lays "java/util/TreeMap$Entry" "java/util/TreeMap$Entry" "color" "Z") ∈ lw_all := lw_g (lw_at lw_m9 216 rfl) rfl
theorem q2256 : (Jvm.Cond.soleField "java/util/TreeMap$Entry" "color") ∈ lw_all := lw_g (lw_at lw_m9 217 rfl) rfl
theorem q2257 : (Jvm.Cond.superclass "java/util/TreeMap$Entry" "java/lang/Object") ∈ lw_all := lw_g (lw_at lw_m9 218 rfl) rfl
theorem q3827 : (Jvm.Cond.castable "java/util/TreeMap$Entry" "java/lang/Object") ∈ lw_tbl := lw_at lw_m16 108 rfl
theorem in_J43 : ∀ w ∈ wsJ430, w ∈ lw_all := lw_in wsJ430 [2245, 2247, 2249, 2251, 2253, 2255] (by decide +kernel) (by decide +kernel)

/-! java/lang/Enum -/
set_option maxRecDepth 100000
def RJ44 : String := "java/lang/Enum"
abbrev cJ44_hashCode : ByteArray := prog_25_method_6_code
def yJ44_hashCode : MethodName := ⟨RJ44, "hashCode", "()I"⟩
def dkwJ44_hashCode_0 : List UInt8 := [42, 180, 0, 17, 60, 27, 154, 0, 13, 42, 42, 184, 0, 20, 90, 181, 0, 17, 60, 27, 172]
abbrev dktJ44_hashCode_0 : List UInt8 := dkwJ44_hashCode_0 ++ []
theorem dksJ44_hashCode_0 : cJ44_hashCode.data.toList.drop 0 = dktJ44_hashCode_0 := by decide +kernel
theorem dJ44_hashCode_0 : decode cJ44_hashCode 0 = .ok (.aload_n 0, 1) := dk_42 (dk_at dksJ44_hashCode_0 0 rfl rfl)
theorem dJ44_hashCode_1 : decode cJ44_hashCode 1 = .ok (.getfield 17, 3) := dk_180 0 17 (dk_at dksJ44_hashCode_0 1 rfl rfl)
theorem dJ44_hashCode_4 : decode cJ44_hashCode 4 = .ok (.istore_n 1, 1) := dk_60 (dk_at dksJ44_hashCode_0 4 rfl rfl)
theorem dJ44_hashCode_5 : decode cJ44_hashCode 5 = .ok (.iload_n 1, 1) := dk_27 (dk_at dksJ44_hashCode_0 5 rfl rfl)
theorem dJ44_hashCode_6 : decode cJ44_hashCode 6 = .ok (.ifCond .ne 13, 3) := dk_154 0 13 (dk_at dksJ44_hashCode_0 6 rfl rfl)
theorem dJ44_hashCode_9 : decode cJ44_hashCode 9 = .ok (.aload_n 0, 1) := dk_42 (dk_at dksJ44_hashCode_0 9 rfl rfl)
theorem dJ44_hashCode_10 : decode cJ44_hashCode 10 = .ok (.aload_n 0, 1) := dk_42 (dk_at dksJ44_hashCode_0 10 rfl rfl)
theorem dJ44_hashCode_11 : decode cJ44_hashCode 11 = .ok (.invokestatic 20, 3) := dk_184 0 20 (dk_at dksJ44_hashCode_0 11 rfl rfl)
theorem dJ44_hashCode_14 : decode cJ44_hashCode 14 = .ok (.dup_x1, 1) := dk_90 (dk_at dksJ44_hashCode_0 14 rfl rfl)
theorem dJ44_hashCode_15 : decode cJ44_hashCode 15 = .ok (.putfield 17, 3) := dk_181 0 17 (dk_at dksJ44_hashCode_0 15 rfl rfl)
theorem dJ44_hashCode_18 : decode cJ44_hashCode 18 = .ok (.istore_n 1, 1) := dk_60 (dk_at dksJ44_hashCode_0 18 rfl rfl)
theorem dJ44_hashCode_19 : decode cJ44_hashCode 19 = .ok (.iload_n 1, 1) := dk_27 (dk_at dksJ44_hashCode_0 19 rfl rfl)
theorem dJ44_hashCode_20 : decode cJ44_hashCode 20 = .ok (.ireturn, 1) := dk_172 (dk_at dksJ44_hashCode_0 20 rfl rfl)
abbrev cJ44_equals : ByteArray := prog_25_method_5_code
def yJ44_equals : MethodName := ⟨RJ44, "equals", "(Ljava/lang/Object;)Z"⟩
def dkwJ44_equals_0 : List UInt8 := [42, 43, 166, 0, 7, 4, 167, 0, 4, 3, 172]
abbrev dktJ44_equals_0 : List UInt8 := dkwJ44_equals_0 ++ []
theorem dksJ44_equals_0 : cJ44_equals.data.toList.drop 0 = dktJ44_equals_0 := by decide +kernel
theorem dJ44_equals_0 : decode cJ44_equals 0 = .ok (.aload_n 0, 1) := dk_42 (dk_at dksJ44_equals_0 0 rfl rfl)
theorem dJ44_equals_1 : decode cJ44_equals 1 = .ok (.aload_n 1, 1) := dk_43 (dk_at dksJ44_equals_0 1 rfl rfl)
theorem dJ44_equals_2 : decode cJ44_equals 2 = .ok (.if_acmp .ne 7, 3) := dk_166 0 7 (dk_at dksJ44_equals_0 2 rfl rfl)
theorem dJ44_equals_5 : decode cJ44_equals 5 = .ok (.iconst 1, 1) := dk_4 (dk_at dksJ44_equals_0 5 rfl rfl)
theorem dJ44_equals_6 : decode cJ44_equals 6 = .ok (.goto 4, 3) := dk_167 0 4 (dk_at dksJ44_equals_0 6 rfl rfl)
theorem dJ44_equals_9 : decode cJ44_equals 9 = .ok (.iconst 0, 1) := dk_3 (dk_at dksJ44_equals_0 9 rfl rfl)
theorem dJ44_equals_10 : decode cJ44_equals 10 = .ok (.ireturn, 1) := dk_172 (dk_at dksJ44_equals_0 10 rfl rfl)
abbrev cJ44_compareTo : ByteArray := prog_25_method_15_code
def yJ44_compareTo : MethodName := ⟨RJ44, "compareTo", "(Ljava/lang/Object;)I"⟩
def dkwJ44_compareTo_0 : List UInt8 := [42, 43, 192, 0, 2, 182, 0, 101, 172]
abbrev dktJ44_compareTo_0 : List UInt8 := dkwJ44_compareTo_0 ++ []
theorem dksJ44_compareTo_0 : cJ44_compareTo.data.toList.drop 0 = dktJ44_compareTo_0 := by decide +kernel
theorem dJ44_compareTo_0 : decode cJ44_compareTo 0 = .ok (.aload_n 0, 1) := dk_42 (dk_at dksJ44_compareTo_0 0 rfl rfl)
theorem dJ44_compareTo_1 : decode cJ44_compareTo 1 = .ok (.aload_n 1, 1) := dk_43 (dk_at dksJ44_compareTo_0 1 rfl rfl)
theorem dJ44_compareTo_2 : decode cJ44_compareTo 2 = .ok (.checkcast 2, 3) := dk_192 0 2 (dk_at dksJ44_compareTo_0 2 rfl rfl)
theorem dJ44_compareTo_5 : decode cJ44_compareTo 5 = .ok (.invokevirtual 101, 3) := dk_182 0 101 (dk_at dksJ44_compareTo_0 5 rfl rfl)
theorem dJ44_compareTo_8 : decode cJ44_compareTo 8 = .ok (.ireturn, 1) := dk_172 (dk_at dksJ44_compareTo_0 8 rfl rfl)
abbrev cJ44_compareTo_2 : ByteArray := prog_25_method_8_code
def yJ44_compareTo_2 : MethodName := ⟨RJ44, "compareTo", "(Ljava/lang/Enum;)I"⟩
def dkwJ44_compareTo_2_1 : List UInt8 := [165, 0, 11, 187, 0, 36, 89, 183, 0, 38, 191, 45, 180, 0, 7, 44, 180, 0, 7, 100, 172]
abbrev dktJ44_compareTo_2_1 : List UInt8 := dkwJ44_compareTo_2_1 ++ []
def dkwJ44_compareTo_2_0 : List UInt8 := [43, 77, 42, 78, 45, 182, 0, 29, 44, 182, 0, 29, 165, 0, 22, 45, 182, 0, 33, 44, 182, 0, 33]
abbrev dktJ44_compareTo_2_0 : List UInt8 := dkwJ44_compareTo_2_0 ++ dktJ44_compareTo_2_1
theorem dksJ44_compareTo_2_0 : cJ44_compareTo_2.data.toList.drop 0 = dktJ44_compareTo_2_0 := by decide +kernel
theorem dksJ44_compareTo_2_1 : cJ44_compareTo_2.data.toList.drop 23 = dktJ44_compareTo_2_1 := dk_seg dksJ44_compareTo_2_0 23 rfl rfl
theorem dJ44_compareTo_2_0 : decode cJ44_compareTo_2 0 = .ok (.aload_n 1, 1) := dk_43 (dk_at dksJ44_compareTo_2_0 0 rfl rfl)
theorem dJ44_compareTo_2_1 : decode cJ44_compareTo_2 1 = .ok (.astore_n 2, 1) := dk_77 (dk_at dksJ44_compareTo_2_0 1 rfl rfl)
theorem dJ44_compareTo_2_2 : decode cJ44_compareTo_2 2 = .ok (.aload_n 0, 1) := dk_42 (dk_at dksJ44_compareTo_2_0 2 rfl rfl)
theorem dJ44_compareTo_2_3 : decode cJ44_compareTo_2 3 = .ok (.astore_n 3, 1) := dk_78 (dk_at dksJ44_compareTo_2_0 3 rfl rfl)
theorem dJ44_compareTo_2_4 : decode cJ44_compareTo_2 4 = .ok (.aload_n 3, 1) := dk_45 (dk_at dksJ44_compareTo_2_0 4 rfl rfl)
theorem dJ44_compareTo_2_5 : decode cJ44_compareTo_2 5 = .ok (.invokevirtual 29, 3) := dk_182 0 29 (dk_at dksJ44_compareTo_2_0 5 rfl rfl)
theorem dJ44_compareTo_2_8 : decode cJ44_compareTo_2 8 = .ok (.aload_n 2, 1) := dk_44 (dk_at dksJ44_compareTo_2_0 8 rfl rfl)
theorem dJ44_compareTo_2_9 : decode cJ44_compareTo_2 9 = .ok (.invokevirtual 29, 3) := dk_182 0 29 (dk_at dksJ44_compareTo_2_0 9 rfl rfl)
theorem dJ44_compareTo_2_12 : decode cJ44_compareTo_2 12 = .ok (.if_acmp .eq 22, 3) := dk_165 0 22 (dk_at dksJ44_compareTo_2_0 12 rfl rfl)
theorem dJ44_compareTo_2_15 : decode cJ44_compareTo_2 15 = .ok (.aload_n 3, 1) := dk_45 (dk_at dksJ44_compareTo_2_0 15 rfl rfl)
theorem dJ44_compareTo_2_16 : decode cJ44_compareTo_2 16 = .ok (.invokevirtual 33, 3) := dk_182 0 33 (dk_at dksJ44_compareTo_2_0 16 rfl rfl)
theorem dJ44_compareTo_2_19 : decode cJ44_compareTo_2 19 = .ok (.aload_n 2, 1) := dk_44 (dk_at dksJ44_compareTo_2_0 19 rfl rfl)
theorem dJ44_compareTo_2_20 : decode cJ44_compareTo_2 20 = .ok (.invokevirtual 33, 3) := dk_182 0 33 (dk_at dksJ44_compareTo_2_0 20 rfl rfl)
theorem dJ44_compareTo_2_23 : decode cJ44_compareTo_2 23 = .ok (.if_acmp .eq 11, 3) := dk_165 0 11 (dk_at dksJ44_compareTo_2_1 0 rfl rfl)
theorem dJ44_compareTo_2_26 : decode cJ44_compareTo_2 26 = .ok (.new 36, 3) := dk_187 0 36 (dk_at dksJ44_compareTo_2_1 3 rfl rfl)
theorem dJ44_compareTo_2_29 : decode cJ44_compareTo_2 29 = .ok (.dup, 1) := dk_89 (dk_at dksJ44_compareTo_2_1 6 rfl rfl)
theorem dJ44_compareTo_2_30 : decode cJ44_compareTo_2 30 = .ok (.invokespecial 38, 3) := dk_183 0 38 (dk_at dksJ44_compareTo_2_1 7 rfl rfl)
theorem dJ44_compareTo_2_33 : decode cJ44_compareTo_2 33 = .ok (.athrow, 1) := dk_191 (dk_at dksJ44_compareTo_2_1 10 rfl rfl)
theorem dJ44_compareTo_2_34 : decode cJ44_compareTo_2 34 = .ok (.aload_n 3, 1) := dk_45 (dk_at dksJ44_compareTo_2_1 11 rfl rfl)
theorem dJ44_compareTo_2_35 : decode cJ44_compareTo_2 35 = .ok (.getfield 7, 3) := dk_180 0 7 (dk_at dksJ44_compareTo_2_1 12 rfl rfl)
theorem dJ44_compareTo_2_38 : decode cJ44_compareTo_2 38 = .ok (.aload_n 2, 1) := dk_44 (dk_at dksJ44_compareTo_2_1 15 rfl rfl)
theorem dJ44_compareTo_2_39 : decode cJ44_compareTo_2 39 = .ok (.getfield 7, 3) := dk_180 0 7 (dk_at dksJ44_compareTo_2_1 16 rfl rfl)
theorem dJ44_compareTo_2_42 : decode cJ44_compareTo_2 42 = .ok (.isub, 1) := dk_100 (dk_at dksJ44_compareTo_2_1 19 rfl rfl)
theorem dJ44_compareTo_2_43 : decode cJ44_compareTo_2 43 = .ok (.ireturn, 1) := dk_172 (dk_at dksJ44_compareTo_2_1 20 rfl rfl)
abbrev cJ44_getDeclaringClass : ByteArray := prog_25_method_9_code
def yJ44_getDeclaringClass : MethodName := ⟨RJ44, "getDeclaringClass", "()Ljava/lang/Class;"⟩
def dkwJ44_getDeclaringClass_0 : List UInt8 := [42, 182, 0, 29, 76, 43, 182, 0, 39, 77, 44, 18, 2, 166, 0, 7, 43, 167, 0, 4, 44, 176]
abbrev dktJ44_getDeclaringClass_0 : List UInt8 := dkwJ44_getDeclaringClass_0 ++ []
theorem dksJ44_getDeclaringClass_0 : cJ44_getDeclaringClass.data.toList.drop 0 = dktJ44_getDeclaringClass_0 := by decide +kernel
theorem dJ44_getDeclaringClass_0 : decode cJ44_getDeclaringClass 0 = .ok (.aload_n 0, 1) := dk_42 (dk_at dksJ44_getDeclaringClass_0 0 rfl rfl)
theorem dJ44_getDeclaringClass_1 : decode cJ44_getDeclaringClass 1 = .ok (.invokevirtual 29, 3) := dk_182 0 29 (dk_at dksJ44_getDeclaringClass_0 1 rfl rfl)
theorem dJ44_getDeclaringClass_4 : decode cJ44_getDeclaringClass 4 = .ok (.astore_n 1, 1) := dk_76 (dk_at dksJ44_getDeclaringClass_0 4 rfl rfl)
theorem dJ44_getDeclaringClass_5 : decode cJ44_getDeclaringClass 5 = .ok (.aload_n 1, 1) := dk_43 (dk_at dksJ44_getDeclaringClass_0 5 rfl rfl)
theorem dJ44_getDeclaringClass_6 : decode cJ44_getDeclaringClass 6 = .ok (.invokevirtual 39, 3) := dk_182 0 39 (dk_at dksJ44_getDeclaringClass_0 6 rfl rfl)
theorem dJ44_getDeclaringClass_9 : decode cJ44_getDeclaringClass 9 = .ok (.astore_n 2, 1) := dk_77 (dk_at dksJ44_getDeclaringClass_0 9 rfl rfl)
theorem dJ44_getDeclaringClass_10 : decode cJ44_getDeclaringClass 10 = .ok (.aload_n 2, 1) := dk_44 (dk_at dksJ44_getDeclaringClass_0 10 rfl rfl)
theorem dJ44_getDeclaringClass_11 : decode cJ44_getDeclaringClass 11 = .ok (.ldc 2, 2) := dk_18 2 (dk_at dksJ44_getDeclaringClass_0 11 rfl rfl)
theorem dJ44_getDeclaringClass_13 : decode cJ44_getDeclaringClass 13 = .ok (.if_acmp .ne 7, 3) := dk_166 0 7 (dk_at dksJ44_getDeclaringClass_0 13 rfl rfl)
theorem dJ44_getDeclaringClass_16 : decode cJ44_getDeclaringClass 16 = .ok (.aload_n 1, 1) := dk_43 (dk_at dksJ44_getDeclaringClass_0 16 rfl rfl)
theorem dJ44_getDeclaringClass_17 : decode cJ44_getDeclaringClass 17 = .ok (.goto 4, 3) := dk_167 0 4 (dk_at dksJ44_getDeclaringClass_0 17 rfl rfl)
theorem dJ44_getDeclaringClass_20 : decode cJ44_getDeclaringClass 20 = .ok (.aload_n 2, 1) := dk_44 (dk_at dksJ44_getDeclaringClass_0 20 rfl rfl)
theorem dJ44_getDeclaringClass_21 : decode cJ44_getDeclaringClass 21 = .ok (.areturn, 1) := dk_176 (dk_at dksJ44_getDeclaringClass_0 21 rfl rfl)
abbrev cJ44_ordinal : ByteArray := prog_25_method_2_code
def yJ44_ordinal : MethodName := ⟨RJ44, "ordinal", "()I"⟩
theorem dJ44_ordinal_0 : decode cJ44_ordinal 0 = .ok (.aload_n 0, 1) := by decide +kernel
theorem dJ44_ordinal_1 : decode cJ44_ordinal 1 = .ok (.getfield 7, 3) := by decide +kernel
theorem dJ44_ordinal_4 : decode cJ44_ordinal 4 = .ok (.ireturn, 1) := by decide +kernel
theorem q175 : (Jvm.Cond.initialized "java/lang/Enum") ∈ lw_all := lw_g (lw_at lw_m1 56 rfl) rfl
theorem q1188 : (Jvm.Cond.instanceMethod ({ cls := "java/lang/Enum", name := "hashCode", desc := "()I" } : Jvm.MethodName)) ∈ lw_all := lw_g (lw_at lw_m5 109 rfl) rfl
theorem q1189 : (Jvm.Cond.code ({ cls := "java/lang/Enum", name := "hashCode", desc := "()I" } : Jvm.MethodName) prog_25_method_6_code (2 : Nat) (Option.some Jvm.ClassFile.FieldType.int)) ∈ lw_all := lw_g (lw_at lw_m5 110 rfl) rfl
theorem q1190 : (Jvm.Cond.methodLink "java/lang/Enum" (20 : Nat) ({ cls := "java/lang/System", name := "identityHashCode", desc := "(Ljava/lang/Object;)I" } : Jvm.MethodName)) ∈ lw_all := lw_g (lw_at lw_m5 111 rfl) rfl
theorem q1293 : (Jvm.Cond.instanceMethod ({ cls := "java/lang/Enum", name := "equals", desc := "(Ljava/lang/Object;)Z" } : Jvm.MethodName)) ∈ lw_all := lw_g (lw_at lw_m5 214 rfl) rfl
theorem q1294 : (Jvm.Cond.code ({ cls := "java/lang/Enum", name := "equals", desc := "(Ljava/lang/Object;)Z" } : Jvm.MethodName) prog_25_method_5_code (2 : Nat) (Option.some Jvm.ClassFile.FieldType.boolean)) ∈ lw_all := lw_g (lw_at lw_m5 215 rfl) rfl
theorem q1353 : (Jvm.Cond.instanceMethod ({ cls := "java/lang/Enum", name := "compareTo", desc := "(Ljava/lang/Object;)I" } : Jvm.MethodName)) ∈ lw_all := lw_g (lw_at lw_m6 34 rfl) rfl
theorem q1354 : (Jvm.Cond.publicMethod ({ cls := "java/lang/Enum", name := "compareTo", desc := "(Ljava/lang/Object;)I" } : Jvm.MethodName)) ∈ lw_tbl := lw_at lw_m6 35 rfl
theorem q1355 : (Jvm.Cond.code ({ cls := "java/lang/Enum", name := "compareTo", desc := "(Ljava/lang/Object;)I" } : Jvm.MethodName) prog_25_method_15_code (2 : Nat) (Option.some Jvm.ClassFile.FieldType.int)) ∈ lw_all := lw_g (lw_at lw_m6 36 rfl) rfl
theorem q1356 : (Jvm.Cond.classLink "java/lang/Enum" (2 : Nat) "java/lang/Enum") ∈ lw_all := lw_g (lw_at lw_m6 37 rfl) rfl
theorem q1357 : (Jvm.Cond.methodLink "java/lang/Enum" (101 : Nat) ({ cls := "java/lang/Enum", name := "compareTo", desc := "(Ljava/lang/Enum;)I" } : Jvm.MethodName)) ∈ lw_all := lw_g (lw_at lw_m6 38 rfl) rfl
theorem q1358 : (Jvm.Cond.instanceMethod ({ cls := "java/lang/Enum", name := "compareTo", desc := "(Ljava/lang/Enum;)I" } : Jvm.MethodName)) ∈ lw_all := lw_g (lw_at lw_m6 39 rfl) rfl
theorem q1359 : (Jvm.Cond.sameMethod "java/lang/Enum" "java/lang/Enum" "compareTo" "(Ljava/lang/Enum;)I") ∈ lw_all := lw_g (lw_at lw_m6 40 rfl) rfl
theorem q1361 : (Jvm.Cond.code ({ cls := "java/lang/Enum", name := "compareTo", desc := "(Ljava/lang/Enum;)I" } : Jvm.MethodName) prog_25_method_8_code (4 : Nat) (Option.some Jvm.ClassFile.FieldType.int)) ∈ lw_all := lw_g (lw_at lw_m6 42 rfl) rfl
theorem q1362 : (Jvm.Cond.methodLink "java/lang/Enum" (29 : Nat) ({ cls := "java/lang/Object", name := "getClass", desc := "()Ljava/lang/Class;" } : Jvm.MethodName)) ∈ lw_all := lw_g (lw_at lw_m6 43 rfl) rfl
theorem q1363 : (Jvm.Cond.methodLink "java/lang/Enum" (33 : Nat) ({ cls := "java/lang/Enum", name := "getDeclaringClass", desc := "()Ljava/lang/Class;" } : Jvm.MethodName)) ∈ lw_all := lw_g (lw_at lw_m6 44 rfl) rfl
theorem q1364 : (Jvm.Cond.instanceMethod ({ cls := "java/lang/Enum", name := "getDeclaringClass", desc := "()Ljava/lang/Class;" } : Jvm.MethodName)) ∈ lw_all := lw_g (lw_at lw_m6 45 rfl) rfl
theorem q1365 : (Jvm.Cond.sameMethod "java/lang/Enum" "java/lang/Enum" "getDeclaringClass" "()Ljava/lang/Class;") ∈ lw_all := lw_g (lw_at lw_m6 46 rfl) rfl
theorem q1367 : (Jvm.Cond.code ({ cls := "java/lang/Enum", name := "getDeclaringClass", desc := "()Ljava/lang/Class;" } : Jvm.MethodName) prog_25_method_9_code (3 : Nat) (Option.some (Jvm.ClassFile.FieldType.object "java/lang/Class"))) ∈ lw_all := lw_g (lw_at lw_m6 48 rfl) rfl
theorem q2543 : (Jvm.Cond.declares ({ cls := "java/lang/Enum", name := "ordinal", desc := "()I" } : Jvm.MethodName)) ∈ lw_tbl := lw_at lw_m11 24 rfl
theorem q2545 : (Jvm.Cond.instanceMethod ({ cls := "java/lang/Enum", name := "ordinal", desc := "()I" } : Jvm.MethodName)) ∈ lw_all := lw_g (lw_at lw_m11 26 rfl) rfl
theorem q2546 : (Jvm.Cond.code ({ cls := "java/lang/Enum", name := "ordinal", desc := "()I" } : Jvm.MethodName) prog_25_method_2_code (1 : Nat) (Option.some Jvm.ClassFile.FieldType.int)) ∈ lw_all := lw_g (lw_at lw_m11 27 rfl) rfl
theorem q3852 : (Jvm.Cond.fieldLink "java/lang/Enum" (17 : Nat) "java/lang/Enum" "hash" "I") ∈ lw_all := lw_g (lw_at lw_m16 133 rfl) rfl
theorem q3853 : (Jvm.Cond.fieldLink "java/lang/Enum" (7 : Nat) "java/lang/Enum" "ordinal" "I") ∈ lw_all := lw_g (lw_at lw_m16 134 rfl) rfl

/-! java/lang/IndexOutOfBoundsException -/
set_option maxRecDepth 100000
def RJ45 : String := "java/lang/IndexOutOfBoundsException"
def TJ45 : u_T := fun k => match k with
  | 0 => ("java/lang/Throwable", "cause", "Ljava/lang/Throwable;", false)
  | 1 => ("java/lang/Throwable", "stackTrace", "[Ljava/lang/StackTraceElement;", false)
  | 2 => ("java/lang/Throwable", "suppressedExceptions", "Ljava/util/List;", false)
  | 3 => ("java/lang/Throwable", "detailMessage", "Ljava/lang/String;", false)
  | 4 => ("java/lang/Throwable", "backtrace", "Ljava/lang/Object;", false)
  | _ => ("java/lang/Throwable", "depth", "I", false)
def tyJ45 : Nat → FieldType := fun k => match k with
  | 0 => .object "java/lang/Throwable"
  | 1 => .array (.object "java/lang/StackTraceElement")
  | 2 => .object "java/util/List"
  | 3 => .object "java/lang/String"
  | 4 => .object "java/lang/Object"
  | _ => .int
abbrev wsJ450 : List Cond := u_ws RJ45 TJ45 6
theorem nmJ45 : ∀ a, a < 6 → ∀ b, b < 6 → a ≠ b → (TJ45 a).2.1 ≠ (TJ45 b).2.1 := by decide +kernel
theorem tyJ45_ok : ∀ k, k < 6 → parseFieldDescriptor (TJ45 k).2.2.1 = some (tyJ45 k) := by decide +kernel
abbrev cJ45_init : ByteArray := prog_29_method_2_code
def yJ45_init : MethodName := ⟨RJ45, "<init>", "(Ljava/lang/String;)V"⟩
def dkwJ45_init_0 : List UInt8 := [42, 43, 183, 0, 7, 177]
abbrev dktJ45_init_0 : List UInt8 := dkwJ45_init_0 ++ []
theorem dksJ45_init_0 : cJ45_init.data.toList.drop 0 = dktJ45_init_0 := by decide +kernel
theorem dJ45_init_0 : decode cJ45_init 0 = .ok (.aload_n 0, 1) := dk_42 (dk_at dksJ45_init_0 0 rfl rfl)
theorem dJ45_init_1 : decode cJ45_init 1 = .ok (.aload_n 1, 1) := dk_43 (dk_at dksJ45_init_0 1 rfl rfl)
theorem dJ45_init_2 : decode cJ45_init 2 = .ok (.invokespecial 7, 3) := dk_183 0 7 (dk_at dksJ45_init_0 2 rfl rfl)
theorem dJ45_init_5 : decode cJ45_init 5 = .ok (.return_, 1) := dk_177 (dk_at dksJ45_init_0 5 rfl rfl)
abbrev cJ45_init_2 : ByteArray := prog_29_method_1_code
def yJ45_init_2 : MethodName := ⟨RJ45, "<init>", "()V"⟩
theorem dJ45_init_2_0 : decode cJ45_init_2 0 = .ok (.aload_n 0, 1) := by decide +kernel
theorem dJ45_init_2_1 : decode cJ45_init_2 1 = .ok (.invokespecial 1, 3) := by decide +kernel
theorem dJ45_init_2_4 : decode cJ45_init_2 4 = .ok (.return_, 1) := by decide +kernel
theorem q181 : (Jvm.Cond.initialized "java/lang/IndexOutOfBoundsException") ∈ lw_all := lw_g (lw_at lw_m1 62 rfl) rfl
theorem q254 : (Jvm.Cond.selects "java/lang/IndexOutOfBoundsException" ({ cls := "java/lang/Throwable", name := "fillInStackTrace", desc := "()Ljava/lang/Throwable;" } : Jvm.MethodName) ({ cls := "java/lang/Throwable", name := "fillInStackTrace", desc := "()Ljava/lang/Throwable;" } : Jvm.MethodName)) ∈ lw_all := lw_g (lw_at lw_m1 135 rfl) rfl
theorem q863 : (Jvm.Cond.selects "java/lang/IndexOutOfBoundsException" ({ cls := "java/lang/Object", name := "getClass", desc := "()Ljava/lang/Class;" } : Jvm.MethodName) ({ cls := "java/lang/Object", name := "getClass", desc := "()Ljava/lang/Class;" } : Jvm.MethodName)) ∈ lw_all := lw_g (lw_at lw_m4 24 rfl) rfl
theorem q1208 : (Jvm.Cond.selects "java/lang/IndexOutOfBoundsException" ({ cls := "java/lang/Object", name := "hashCode", desc := "()I" } : Jvm.MethodName) ({ cls := "java/lang/Object", name := "hashCode", desc := "()I" } : Jvm.MethodName)) ∈ lw_all := lw_g (lw_at lw_m5 129 rfl) rfl
theorem q1312 : (Jvm.Cond.selects "java/lang/IndexOutOfBoundsException" ({ cls := "java/lang/Object", name := "equals", desc := "(Ljava/lang/Object;)Z" } : Jvm.MethodName) ({ cls := "java/lang/Object", name := "equals", desc := "(Ljava/lang/Object;)Z" } : Jvm.MethodName)) ∈ lw_all := lw_g (lw_at lw_m5 233 rfl) rfl
theorem q2696 : (Jvm.Cond.instanceMethod ({ cls := "java/lang/IndexOutOfBoundsException", name := "<init>", desc := "(Ljava/lang/String;)V" } : Jvm.MethodName)) ∈ lw_all := lw_g (lw_at lw_m11 177 rfl) rfl
theorem q2697 : (Jvm.Cond.code ({ cls := "java/lang/IndexOutOfBoundsException", name := "<init>", desc := "(Ljava/lang/String;)V" } : Jvm.MethodName) prog_29_method_2_code (2 : Nat) (Option.none : Option Jvm.ClassFile.FieldType)) ∈ lw_all := lw_g (lw_at lw_m11 178 rfl) rfl
theorem q2698 : (Jvm.Cond.methodLink "java/lang/IndexOutOfBoundsException" (7 : Nat) ({ cls := "java/lang/RuntimeException", name := "<init>", desc := "(Ljava/lang/String;)V" } : Jvm.MethodName)) ∈ lw_all := lw_g (lw_at lw_m11 179 rfl) rfl
theorem q2721 : (Jvm.Cond.declares ({ cls := "java/lang/IndexOutOfBoundsException", name := "<init>", desc := "()V" } : Jvm.MethodName)) ∈ lw_tbl := lw_at lw_m11 202 rfl
theorem q2722 : (Jvm.Cond.declares ({ cls := "java/lang/IndexOutOfBoundsException", name := "<init>", desc := "(Ljava/lang/String;)V" } : Jvm.MethodName)) ∈ lw_tbl := lw_at lw_m11 203 rfl
theorem q2786 : (Jvm.Cond.instantiable "java/lang/IndexOutOfBoundsException" (6 : Nat)) ∈ lw_all := lw_g (lw_at lw_m12 27 rfl) rfl
theorem q2787 : (Jvm.Cond.castable "java/lang/IndexOutOfBoundsException" "java/lang/IndexOutOfBoundsException") ∈ lw_tbl := lw_at lw_m12 28 rfl
theorem q2788 : (Jvm.Cond.selects "java/lang/IndexOutOfBoundsException" ({ cls := "java/lang/Throwable", name := "fillInStackTrace", desc := "(I)Ljava/lang/Throwable;" } : Jvm.MethodName) ({ cls := "java/lang/Throwable", name := "fillInStackTrace", desc := "(I)Ljava/lang/Throwable;" } : Jvm.MethodName)) ∈ lw_all := lw_g (lw_at lw_m12 29 rfl) rfl
theorem q2789 : (Jvm.Cond.lays "java/lang/IndexOutOfBoundsException" "java/lang/Throwable" "cause" "Ljava/lang/Throwable;") ∈ lw_all := lw_g (lw_at lw_m12 30 rfl) rfl
theorem q2790 : (Jvm.Cond.lays "java/lang/IndexOutOfBoundsException" "java/lang/Throwable" "stackTrace" "[Ljava/lang/StackTraceElement;") ∈ lw_all := lw_g (lw_at lw_m12 31 rfl) rfl
theorem q2791 : (Jvm.Cond.lays "java/lang/IndexOutOfBoundsException" "java/lang/Throwable" "suppressedExceptions" "Ljava/util/List;") ∈ lw_all := lw_g (lw_at lw_m12 32 rfl) rfl
theorem q2792 : (Jvm.Cond.lays "java/lang/IndexOutOfBoundsException" "java/lang/Throwable" "detailMessage" "Ljava/lang/String;") ∈ lw_all := lw_g (lw_at lw_m12 33 rfl) rfl
theorem q2793 : (Jvm.Cond.lays "java/lang/IndexOutOfBoundsException" "java/lang/Throwable" "backtrace" "Ljava/lang/Object;") ∈ lw_all := lw_g (lw_at lw_m12 34 rfl) rfl
theorem q2795 : (Jvm.Cond.instanceMethod ({ cls := "java/lang/IndexOutOfBoundsException", name := "<init>", desc := "()V" } : Jvm.MethodName)) ∈ lw_all := lw_g (lw_at lw_m12 36 rfl) rfl
theorem q2796 : (Jvm.Cond.code ({ cls := "java/lang/IndexOutOfBoundsException", name := "<init>", desc := "()V" } : Jvm.MethodName) prog_29_method_1_code (1 : Nat) (Option.none : Option Jvm.ClassFile.FieldType)) ∈ lw_all := lw_g (lw_at lw_m12 37 rfl) rfl
theorem q2797 : (Jvm.Cond.methodLink "java/lang/IndexOutOfBoundsException" (1 : Nat) ({ cls := "java/lang/RuntimeException", name := "<init>", desc := "()V" } : Jvm.MethodName)) ∈ lw_all := lw_g (lw_at lw_m12 38 rfl) rfl
theorem q2798 : (Jvm.Cond.lays "java/lang/IndexOutOfBoundsException" "java/lang/Throwable" "depth" "I") ∈ lw_all := lw_g (lw_at lw_m12 39 rfl) rfl
theorem q2799 : (Jvm.Cond.superclass "java/lang/IndexOutOfBoundsException" "java/lang/RuntimeException") ∈ lw_all := lw_g (lw_at lw_m12 40 rfl) rfl
theorem q3822 : (Jvm.Cond.castable "java/lang/IndexOutOfBoundsException" "java/lang/Object") ∈ lw_tbl := lw_at lw_m16 103 rfl
theorem in_J45 : ∀ w ∈ wsJ450, w ∈ lw_all := lw_in wsJ450 [2789, 2790, 2791, 2792, 2793, 2798] (by decide +kernel) (by decide +kernel)

/-! java/lang/Object -/
set_option maxRecDepth 100000
def RJ48 : String := "java/lang/Object"
abbrev cJ48_init : ByteArray := object_method_1_code
def yJ48_init : MethodName := ⟨RJ48, "<init>", "()V"⟩
theorem dJ48_init_0 : decode cJ48_init 0 = .ok (.return_, 1) := by decide +kernel
abbrev cJ48_equals : ByteArray := object_method_4_code
def yJ48_equals : MethodName := ⟨RJ48, "equals", "(Ljava/lang/Object;)Z"⟩
def dkwJ48_equals_0 : List UInt8 := [42, 43, 166, 0, 7, 4, 167, 0, 4, 3, 172]
abbrev dktJ48_equals_0 : List UInt8 := dkwJ48_equals_0 ++ []
theorem dksJ48_equals_0 : cJ48_equals.data.toList.drop 0 = dktJ48_equals_0 := by decide +kernel
theorem dJ48_equals_0 : decode cJ48_equals 0 = .ok (.aload_n 0, 1) := dk_42 (dk_at dksJ48_equals_0 0 rfl rfl)
theorem dJ48_equals_1 : decode cJ48_equals 1 = .ok (.aload_n 1, 1) := dk_43 (dk_at dksJ48_equals_0 1 rfl rfl)
theorem dJ48_equals_2 : decode cJ48_equals 2 = .ok (.if_acmp .ne 7, 3) := dk_166 0 7 (dk_at dksJ48_equals_0 2 rfl rfl)
theorem dJ48_equals_5 : decode cJ48_equals 5 = .ok (.iconst 1, 1) := dk_4 (dk_at dksJ48_equals_0 5 rfl rfl)
theorem dJ48_equals_6 : decode cJ48_equals 6 = .ok (.goto 4, 3) := dk_167 0 4 (dk_at dksJ48_equals_0 6 rfl rfl)
theorem dJ48_equals_9 : decode cJ48_equals 9 = .ok (.iconst 0, 1) := dk_3 (dk_at dksJ48_equals_0 9 rfl rfl)
theorem dJ48_equals_10 : decode cJ48_equals 10 = .ok (.ireturn, 1) := dk_172 (dk_at dksJ48_equals_0 10 rfl rfl)
theorem q192 : (Jvm.Cond.instanceMethod ({ cls := "java/lang/Object", name := "<init>", desc := "()V" } : Jvm.MethodName)) ∈ lw_all := lw_g (lw_at lw_m1 73 rfl) rfl
theorem q193 : (Jvm.Cond.code ({ cls := "java/lang/Object", name := "<init>", desc := "()V" } : Jvm.MethodName) object_method_1_code (1 : Nat) (Option.none : Option Jvm.ClassFile.FieldType)) ∈ lw_all := lw_g (lw_at lw_m1 74 rfl) rfl
theorem q331 : (Jvm.Cond.native ({ cls := "java/lang/Object", name := "clone", desc := "()Ljava/lang/Object;" } : Jvm.MethodName)) ∈ lw_all := lw_g (lw_at lw_m1 212 rfl) rfl
theorem q332 : (Jvm.Cond.instanceMethod ({ cls := "java/lang/Object", name := "clone", desc := "()Ljava/lang/Object;" } : Jvm.MethodName)) ∈ lw_all := lw_g (lw_at lw_m1 213 rfl) rfl
theorem q842 : (Jvm.Cond.instanceMethod ({ cls := "java/lang/Object", name := "getClass", desc := "()Ljava/lang/Class;" } : Jvm.MethodName)) ∈ lw_all := lw_g (lw_at lw_m4 3 rfl) rfl
theorem q843 : (Jvm.Cond.sameMethod "java/lang/Object" "java/lang/Object" "getClass" "()Ljava/lang/Class;") ∈ lw_all := lw_g (lw_at lw_m4 4 rfl) rfl
theorem q885 : (Jvm.Cond.native ({ cls := "java/lang/Object", name := "getClass", desc := "()Ljava/lang/Class;" } : Jvm.MethodName)) ∈ lw_all := lw_g (lw_at lw_m4 46 rfl) rfl
theorem q1175 : (Jvm.Cond.declares ({ cls := "java/lang/Object", name := "hashCode", desc := "()I" } : Jvm.MethodName)) ∈ lw_tbl := lw_at lw_m5 96 rfl
theorem q1177 : (Jvm.Cond.instanceMethod ({ cls := "java/lang/Object", name := "hashCode", desc := "()I" } : Jvm.MethodName)) ∈ lw_all := lw_g (lw_at lw_m5 98 rfl) rfl
theorem q1178 : (Jvm.Cond.sameMethod "java/lang/Object" "java/lang/Object" "hashCode" "()I") ∈ lw_all := lw_g (lw_at lw_m5 99 rfl) rfl
theorem q1279 : (Jvm.Cond.native ({ cls := "java/lang/Object", name := "hashCode", desc := "()I" } : Jvm.MethodName)) ∈ lw_all := lw_g (lw_at lw_m5 200 rfl) rfl
theorem q1280 : (Jvm.Cond.declares ({ cls := "java/lang/Object", name := "equals", desc := "(Ljava/lang/Object;)Z" } : Jvm.MethodName)) ∈ lw_tbl := lw_at lw_m5 201 rfl
theorem q1282 : (Jvm.Cond.instanceMethod ({ cls := "java/lang/Object", name := "equals", desc := "(Ljava/lang/Object;)Z" } : Jvm.MethodName)) ∈ lw_all := lw_g (lw_at lw_m5 203 rfl) rfl
theorem q1283 : (Jvm.Cond.sameMethod "java/lang/Object" "java/lang/Object" "equals" "(Ljava/lang/Object;)Z") ∈ lw_all := lw_g (lw_at lw_m5 204 rfl) rfl
theorem q1322 : (Jvm.Cond.code ({ cls := "java/lang/Object", name := "equals", desc := "(Ljava/lang/Object;)Z" } : Jvm.MethodName) object_method_4_code (2 : Nat) (Option.some Jvm.ClassFile.FieldType.boolean)) ∈ lw_all := lw_g (lw_at lw_m6 3 rfl) rfl
theorem q3786 : (Jvm.Cond.initialized "java/lang/Object") ∈ lw_all := lw_g (lw_at lw_m16 67 rfl) rfl
theorem q3835 : (Jvm.Cond.declares ({ cls := "java/lang/Object", name := "getClass", desc := "()Ljava/lang/Class;" } : Jvm.MethodName)) ∈ lw_tbl := lw_at lw_m16 116 rfl

theorem q330 : (Jvm.Cond.sameMethod "[B" "java/lang/Object" "clone" "()Ljava/lang/Object;") ∈ lw_all := lw_g (lw_at lw_m1 211 rfl) rfl
set_option maxRecDepth 100000
theorem q333 : (Jvm.Cond.selects "[B" ({ cls := "[B", name := "clone", desc := "()Ljava/lang/Object;" } : Jvm.MethodName) ({ cls := "java/lang/Object", name := "clone", desc := "()Ljava/lang/Object;" } : Jvm.MethodName)) ∈ lw_all := lw_g (lw_at lw_m1 214 rfl) rfl
theorem q334 : (Jvm.Cond.castable "[B" "java/lang/Cloneable") ∈ lw_tbl := lw_at lw_m1 215 rfl
theorem q3837 : (Jvm.Cond.castable "[B" "java/lang/Object") ∈ lw_tbl := lw_at lw_m16 118 rfl
theorem q3841 : (Jvm.Cond.castable "[I" "java/lang/Object") ∈ lw_tbl := lw_at lw_m16 122 rfl
set_option maxRecDepth 100000
theorem q3844 : (Jvm.Cond.castable "[J" "java/lang/Object") ∈ lw_tbl := lw_at lw_m16 125 rfl
set_option maxRecDepth 100000
theorem q3839 : (Jvm.Cond.castable "[LNoteImporter$Alignment;" "java/lang/Object") ∈ lw_tbl := lw_at lw_m16 120 rfl
set_option maxRecDepth 100000
theorem q3840 : (Jvm.Cond.castable "[LNoteImporter$Anchor;" "java/lang/Object") ∈ lw_tbl := lw_at lw_m16 121 rfl
set_option maxRecDepth 100000
theorem q2536 : (Jvm.Cond.sameMethod "[LNoteImporter$Kind;" "java/lang/Object" "clone" "()Ljava/lang/Object;") ∈ lw_all := lw_g (lw_at lw_m11 17 rfl) rfl
set_option maxRecDepth 100000
theorem q2537 : (Jvm.Cond.selects "[LNoteImporter$Kind;" ({ cls := "[LNoteImporter$Kind;", name := "clone", desc := "()Ljava/lang/Object;" } : Jvm.MethodName) ({ cls := "java/lang/Object", name := "clone", desc := "()Ljava/lang/Object;" } : Jvm.MethodName)) ∈ lw_all := lw_g (lw_at lw_m11 18 rfl) rfl
theorem q2538 : (Jvm.Cond.castable "[LNoteImporter$Kind;" "java/lang/Cloneable") ∈ lw_tbl := lw_at lw_m11 19 rfl
theorem q3843 : (Jvm.Cond.castable "[LNoteImporter$Kind;" "java/lang/Object") ∈ lw_tbl := lw_at lw_m16 124 rfl
theorem q3838 : (Jvm.Cond.castable "[LNoteImporter$Library;" "java/lang/Object") ∈ lw_tbl := lw_at lw_m16 119 rfl
set_option maxRecDepth 100000
theorem q3833 : (Jvm.Cond.sameMethod "[Ljava/lang/Object;" "java/lang/Object" "getClass" "()Ljava/lang/Class;") ∈ lw_all := lw_g (lw_at lw_m16 114 rfl) rfl
set_option maxRecDepth 100000
theorem q3834 : (Jvm.Cond.selects "[Ljava/lang/Object;" ({ cls := "java/lang/Object", name := "getClass", desc := "()Ljava/lang/Class;" } : Jvm.MethodName) ({ cls := "java/lang/Object", name := "getClass", desc := "()Ljava/lang/Class;" } : Jvm.MethodName)) ∈ lw_all := lw_g (lw_at lw_m16 115 rfl) rfl
theorem q3836 : (Jvm.Cond.castable "[Ljava/lang/Object;" "java/lang/Object") ∈ lw_tbl := lw_at lw_m16 117 rfl
theorem q3842 : (Jvm.Cond.castable "[Ljava/util/HashMap$Node;" "java/lang/Object") ∈ lw_tbl := lw_at lw_m16 123 rfl
set_option maxRecDepth 100000
theorem q3845 : (Jvm.Cond.castable "[Z" "java/lang/Object") ∈ lw_tbl := lw_at lw_m16 126 rfl
set_option maxRecDepth 100000
theorem q1348 : (Jvm.Cond.interfaceMethod "java/lang/Comparable" "java/lang/Comparable" "compareTo" "(Ljava/lang/Object;)I") ∈ lw_tbl := lw_at lw_m6 29 rfl
set_option maxRecDepth 100000
theorem q1349 : (Jvm.Cond.declares ({ cls := "java/lang/Comparable", name := "compareTo", desc := "(Ljava/lang/Object;)I" } : Jvm.MethodName)) ∈ lw_tbl := lw_at lw_m6 30 rfl
theorem q172 : (Jvm.Cond.initialized "java/lang/Integer$IntegerCache") ∈ lw_all := lw_g (lw_at lw_m1 53 rfl) rfl
set_option maxRecDepth 100000
theorem q896 : (Jvm.Cond.laysStatic "java/lang/Integer$IntegerCache" "high" "I") ∈ lw_tbl := lw_at lw_m4 57 rfl
theorem q898 : (Jvm.Cond.laysStatic "java/lang/Integer$IntegerCache" "cache" "[Ljava/lang/Integer;") ∈ lw_tbl := lw_at lw_m4 59 rfl
theorem q136 : (Jvm.Cond.initialized "java/lang/System") ∈ lw_all := lw_g (lw_at lw_m1 17 rfl) rfl
set_option maxRecDepth 100000
theorem q340 : (Jvm.Cond.static ({ cls := "java/lang/System", name := "arraycopy", desc := "(Ljava/lang/Object;ILjava/lang/Object;II)V" } : Jvm.MethodName)) ∈ lw_all := lw_g (lw_at lw_m1 221 rfl) rfl
theorem q341 : (Jvm.Cond.native ({ cls := "java/lang/System", name := "arraycopy", desc := "(Ljava/lang/Object;ILjava/lang/Object;II)V" } : Jvm.MethodName)) ∈ lw_all := lw_g (lw_at lw_m1 222 rfl) rfl
theorem q1191 : (Jvm.Cond.static ({ cls := "java/lang/System", name := "identityHashCode", desc := "(Ljava/lang/Object;)I" } : Jvm.MethodName)) ∈ lw_all := lw_g (lw_at lw_m5 112 rfl) rfl
theorem q1192 : (Jvm.Cond.native ({ cls := "java/lang/System", name := "identityHashCode", desc := "(Ljava/lang/Object;)I" } : Jvm.MethodName)) ∈ lw_all := lw_g (lw_at lw_m5 113 rfl) rfl
theorem q1900 : (Jvm.Cond.interfaceMethod "java/util/Collection" "java/util/Collection" "toArray" "()[Ljava/lang/Object;") ∈ lw_tbl := lw_at lw_m8 101 rfl
set_option maxRecDepth 100000
theorem q1901 : (Jvm.Cond.declares ({ cls := "java/util/Collection", name := "toArray", desc := "()[Ljava/lang/Object;" } : Jvm.MethodName)) ∈ lw_tbl := lw_at lw_m8 102 rfl
theorem q2031 : (Jvm.Cond.interfaceMethod "java/util/Collection" "java/util/Collection" "iterator" "()Ljava/util/Iterator;") ∈ lw_tbl := lw_at lw_m8 232 rfl
theorem q2032 : (Jvm.Cond.declares ({ cls := "java/util/Collection", name := "iterator", desc := "()Ljava/util/Iterator;" } : Jvm.MethodName)) ∈ lw_tbl := lw_at lw_m8 233 rfl
theorem q1763 : (Jvm.Cond.interfaceMethod "java/util/Comparator" "java/util/Comparator" "compare" "(Ljava/lang/Object;Ljava/lang/Object;)I") ∈ lw_tbl := lw_at lw_m7 204 rfl
set_option maxRecDepth 100000
theorem q1764 : (Jvm.Cond.declares ({ cls := "java/util/Comparator", name := "compare", desc := "(Ljava/lang/Object;Ljava/lang/Object;)I" } : Jvm.MethodName)) ∈ lw_tbl := lw_at lw_m7 205 rfl
theorem q1072 : (Jvm.Cond.interfaceMethod "java/util/Iterator" "java/util/Iterator" "hasNext" "()Z") ∈ lw_tbl := lw_at lw_m4 233 rfl
set_option maxRecDepth 100000
theorem q1073 : (Jvm.Cond.declares ({ cls := "java/util/Iterator", name := "hasNext", desc := "()Z" } : Jvm.MethodName)) ∈ lw_tbl := lw_at lw_m4 234 rfl
theorem q1104 : (Jvm.Cond.interfaceMethod "java/util/Iterator" "java/util/Iterator" "next" "()Ljava/lang/Object;") ∈ lw_tbl := lw_at lw_m5 25 rfl
theorem q1105 : (Jvm.Cond.declares ({ cls := "java/util/Iterator", name := "next", desc := "()Ljava/lang/Object;" } : Jvm.MethodName)) ∈ lw_tbl := lw_at lw_m5 26 rfl
theorem q1803 : (Jvm.Cond.publicMethod ({ cls := "java/util/Map", name := "size", desc := "()I" } : Jvm.MethodName)) ∈ lw_tbl := lw_at lw_m8 4 rfl
set_option maxRecDepth 100000
theorem q1804 : (Jvm.Cond.declares ({ cls := "java/util/Map", name := "size", desc := "()I" } : Jvm.MethodName)) ∈ lw_tbl := lw_at lw_m8 5 rfl
theorem q2203 : (Jvm.Cond.publicMethod ({ cls := "java/util/Map", name := "put", desc := "(Ljava/lang/Object;Ljava/lang/Object;)Ljava/lang/Object;" } : Jvm.MethodName)) ∈ lw_tbl := lw_at lw_m9 164 rfl
theorem q2204 : (Jvm.Cond.declares ({ cls := "java/util/Map", name := "put", desc := "(Ljava/lang/Object;Ljava/lang/Object;)Ljava/lang/Object;" } : Jvm.MethodName)) ∈ lw_tbl := lw_at lw_m9 165 rfl
theorem q1044 : (Jvm.Cond.interfaceMethod "java/util/NavigableMap" "java/util/NavigableMap" "navigableKeySet" "()Ljava/util/NavigableSet;") ∈ lw_tbl := lw_at lw_m4 205 rfl
set_option maxRecDepth 100000
theorem q1045 : (Jvm.Cond.declares ({ cls := "java/util/NavigableMap", name := "navigableKeySet", desc := "()Ljava/util/NavigableSet;" } : Jvm.MethodName)) ∈ lw_tbl := lw_at lw_m4 206 rfl
theorem q1064 : (Jvm.Cond.interfaceMethod "java/util/NavigableSet" "java/util/NavigableSet" "iterator" "()Ljava/util/Iterator;") ∈ lw_tbl := lw_at lw_m4 225 rfl
set_option maxRecDepth 100000
theorem q1065 : (Jvm.Cond.declares ({ cls := "java/util/NavigableSet", name := "iterator", desc := "()Ljava/util/Iterator;" } : Jvm.MethodName)) ∈ lw_tbl := lw_at lw_m4 226 rfl
theorem q958 : (Jvm.Cond.interfaceMethod "java/util/Set" "java/util/Set" "iterator" "()Ljava/util/Iterator;") ∈ lw_tbl := lw_at lw_m4 119 rfl
set_option maxRecDepth 100000
theorem q959 : (Jvm.Cond.declares ({ cls := "java/util/Set", name := "iterator", desc := "()Ljava/util/Iterator;" } : Jvm.MethodName)) ∈ lw_tbl := lw_at lw_m4 120 rfl
theorem q1034 : (Jvm.Cond.declares ({ cls := "java/util/TreeMap$NavigableSubMap", name := "keyIterator", desc := "()Ljava/util/Iterator;" } : Jvm.MethodName)) ∈ lw_tbl := lw_at lw_m4 195 rfl
set_option maxRecDepth 100000
theorem q1035 : (Jvm.Cond.selects "java/util/TreeMap$NavigableSubMap" ({ cls := "java/util/TreeMap$NavigableSubMap", name := "keyIterator", desc := "()Ljava/util/Iterator;" } : Jvm.MethodName) ({ cls := "java/util/TreeMap$NavigableSubMap", name := "keyIterator", desc := "()Ljava/util/Iterator;" } : Jvm.MethodName)) ∈ lw_all := lw_g (lw_at lw_m4 196 rfl) rfl
theorem q1239 : (Jvm.Cond.interfaceMethod "jdk/internal/access/JavaLangAccess" "jdk/internal/access/JavaLangAccess" "getUTF16Char" "([BI)C") ∈ lw_tbl := lw_at lw_m5 160 rfl
set_option maxRecDepth 100000
theorem q1240 : (Jvm.Cond.declares ({ cls := "jdk/internal/access/JavaLangAccess", name := "getUTF16Char", desc := "([BI)C" } : Jvm.MethodName)) ∈ lw_tbl := lw_at lw_m5 161 rfl
theorem q164 : (Jvm.Cond.initialized "jdk/internal/misc/UnsafeConstants") ∈ lw_all := lw_g (lw_at lw_m1 45 rfl) rfl
set_option maxRecDepth 100000
theorem q1451 : (Jvm.Cond.laysStatic "jdk/internal/misc/UnsafeConstants" "BIG_ENDIAN" "Z") ∈ lw_tbl := lw_at lw_m6 132 rfl
theorem q213 : (Jvm.Cond.arrayOver (Jvm.ClassFile.FieldType.object "java/lang/Object")) ∈ lw_tbl := lw_at lw_m1 94 rfl
set_option maxRecDepth 100000
theorem q294 : (Jvm.Cond.arrayClass Jvm.ClassFile.FieldType.byte) ∈ lw_all := lw_g (lw_at lw_m1 175 rfl) rfl
theorem q622 : (Jvm.Cond.arrayOver (Jvm.ClassFile.FieldType.object "NoteImporter$Library")) ∈ lw_tbl := lw_at lw_m3 23 rfl
theorem q670 : (Jvm.Cond.arrayOver (Jvm.ClassFile.FieldType.object "NoteImporter$Alignment")) ∈ lw_tbl := lw_at lw_m3 71 rfl
theorem q672 : (Jvm.Cond.arrayOver (Jvm.ClassFile.FieldType.object "NoteImporter$Anchor")) ∈ lw_tbl := lw_at lw_m3 73 rfl
theorem q731 : (Jvm.Cond.arrayClass Jvm.ClassFile.FieldType.int) ∈ lw_all := lw_g (lw_at lw_m3 132 rfl) rfl
theorem q2069 : (Jvm.Cond.arrayOver (Jvm.ClassFile.FieldType.object "java/util/HashMap$Node")) ∈ lw_tbl := lw_at lw_m9 30 rfl
theorem q2539 : (Jvm.Cond.arrayOver (Jvm.ClassFile.FieldType.object "NoteImporter$Kind")) ∈ lw_tbl := lw_at lw_m11 20 rfl
theorem q3266 : (Jvm.Cond.arrayClass Jvm.ClassFile.FieldType.long) ∈ lw_all := lw_g (lw_at lw_m14 27 rfl) rfl
theorem q3267 : (Jvm.Cond.arrayClass Jvm.ClassFile.FieldType.boolean) ∈ lw_all := lw_g (lw_at lw_m14 28 rfl) rfl
theorem q3846 : (Jvm.Cond.arrayClass Jvm.ClassFile.FieldType.char) ∈ lw_all := lw_g (lw_at lw_m16 127 rfl) rfl
theorem q3847 : (Jvm.Cond.arrayClass Jvm.ClassFile.FieldType.short) ∈ lw_all := lw_g (lw_at lw_m16 128 rfl) rfl

