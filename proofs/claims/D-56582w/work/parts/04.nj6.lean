/-! java/util/TreeMap -/
set_option maxRecDepth 100000
def RJ6 : String := "java/util/TreeMap"
def TJ6 : u_T := fun k => match k with
  | 0 => ("java/util/AbstractMap", "keySet", "Ljava/util/Set;", false)
  | 1 => ("java/util/AbstractMap", "values", "Ljava/util/Collection;", false)
  | 2 => ("java/util/TreeMap", "comparator", "Ljava/util/Comparator;", true)
  | 3 => ("java/util/TreeMap", "root", "Ljava/util/TreeMap$Entry;", false)
  | 4 => ("java/util/TreeMap", "size", "I", false)
  | 5 => ("java/util/TreeMap", "modCount", "I", false)
  | 6 => ("java/util/TreeMap", "entrySet", "Ljava/util/TreeMap$EntrySet;", false)
  | 7 => ("java/util/TreeMap", "navigableKeySet", "Ljava/util/TreeMap$KeySet;", false)
  | _ => ("java/util/TreeMap", "descendingMap", "Ljava/util/NavigableMap;", false)
def tyJ6 : Nat → FieldType := fun k => match k with
  | 0 => .object "java/util/Set"
  | 1 => .object "java/util/Collection"
  | 2 => .object "java/util/Comparator"
  | 3 => .object "java/util/TreeMap$Entry"
  | 4 => .int
  | 5 => .int
  | 6 => .object "java/util/TreeMap$EntrySet"
  | 7 => .object "java/util/TreeMap$KeySet"
  | _ => .object "java/util/NavigableMap"
abbrev wsJ60 : List Cond := u_ws RJ6 TJ6 9
theorem nmJ6 : ∀ a, a < 9 → ∀ b, b < 9 → a ≠ b → (TJ6 a).2.1 ≠ (TJ6 b).2.1 := by decide +kernel
theorem tyJ6_ok : ∀ k, k < 9 → parseFieldDescriptor (TJ6 k).2.2.1 = some (tyJ6 k) := by decide +kernel
abbrev cJ6_init : ByteArray := prog_63_method_1_code
def yJ6_init : MethodName := ⟨RJ6, "<init>", "()V"⟩
def dkwJ6_init_0 : List UInt8 := [42, 183, 0, 1, 42, 3, 181, 0, 7, 42, 3, 181, 0, 13, 42, 1, 181, 0, 16, 177]
abbrev dktJ6_init_0 : List UInt8 := dkwJ6_init_0 ++ []
theorem dksJ6_init_0 : cJ6_init.data.toList.drop 0 = dktJ6_init_0 := by decide +kernel
theorem dJ6_init_0 : decode cJ6_init 0 = .ok (.aload_n 0, 1) := dk_42 (dk_at dksJ6_init_0 0 rfl rfl)
theorem dJ6_init_1 : decode cJ6_init 1 = .ok (.invokespecial 1, 3) := dk_183 0 1 (dk_at dksJ6_init_0 1 rfl rfl)
theorem dJ6_init_4 : decode cJ6_init 4 = .ok (.aload_n 0, 1) := dk_42 (dk_at dksJ6_init_0 4 rfl rfl)
theorem dJ6_init_5 : decode cJ6_init 5 = .ok (.iconst 0, 1) := dk_3 (dk_at dksJ6_init_0 5 rfl rfl)
theorem dJ6_init_6 : decode cJ6_init 6 = .ok (.putfield 7, 3) := dk_181 0 7 (dk_at dksJ6_init_0 6 rfl rfl)
theorem dJ6_init_9 : decode cJ6_init 9 = .ok (.aload_n 0, 1) := dk_42 (dk_at dksJ6_init_0 9 rfl rfl)
theorem dJ6_init_10 : decode cJ6_init 10 = .ok (.iconst 0, 1) := dk_3 (dk_at dksJ6_init_0 10 rfl rfl)
theorem dJ6_init_11 : decode cJ6_init 11 = .ok (.putfield 13, 3) := dk_181 0 13 (dk_at dksJ6_init_0 11 rfl rfl)
theorem dJ6_init_14 : decode cJ6_init 14 = .ok (.aload_n 0, 1) := dk_42 (dk_at dksJ6_init_0 14 rfl rfl)
theorem dJ6_init_15 : decode cJ6_init 15 = .ok (.aconst_null, 1) := dk_1 (dk_at dksJ6_init_0 15 rfl rfl)
theorem dJ6_init_16 : decode cJ6_init 16 = .ok (.putfield 16, 3) := dk_181 0 16 (dk_at dksJ6_init_0 16 rfl rfl)
theorem dJ6_init_19 : decode cJ6_init 19 = .ok (.return_, 1) := dk_177 (dk_at dksJ6_init_0 19 rfl rfl)
abbrev cJ6_size : ByteArray := prog_63_method_5_code
def yJ6_size : MethodName := ⟨RJ6, "size", "()I"⟩
theorem dJ6_size_0 : decode cJ6_size 0 = .ok (.aload_n 0, 1) := by decide +kernel
theorem dJ6_size_1 : decode cJ6_size 1 = .ok (.getfield 7, 3) := by decide +kernel
theorem dJ6_size_4 : decode cJ6_size 4 = .ok (.ireturn, 1) := by decide +kernel
abbrev cJ6_successor : ByteArray := prog_63_method_74_code
def yJ6_successor : MethodName := ⟨RJ6, "successor", "(Ljava/util/TreeMap$Entry;)Ljava/util/TreeMap$Entry;"⟩
def dkwJ6_successor_2 : List UInt8 := [44, 43, 180, 0, 114, 166, 0, 13, 43, 77, 43, 180, 0, 124, 76, 167, 255, 237, 43, 176]
abbrev dktJ6_successor_2 : List UInt8 := dkwJ6_successor_2 ++ []
def dkwJ6_successor_1 : List UInt8 := [198, 0, 11, 43, 180, 0, 111, 76, 167, 255, 244, 43, 176, 42, 180, 0, 124, 76, 42, 77, 43, 198, 0, 21]
abbrev dktJ6_successor_1 : List UInt8 := dkwJ6_successor_1 ++ dktJ6_successor_2
def dkwJ6_successor_0 : List UInt8 := [42, 199, 0, 5, 1, 176, 42, 180, 0, 114, 198, 0, 25, 42, 180, 0, 114, 76, 43, 180, 0, 111]
abbrev dktJ6_successor_0 : List UInt8 := dkwJ6_successor_0 ++ dktJ6_successor_1
theorem dksJ6_successor_0 : cJ6_successor.data.toList.drop 0 = dktJ6_successor_0 := by decide +kernel
theorem dksJ6_successor_1 : cJ6_successor.data.toList.drop 22 = dktJ6_successor_1 := dk_seg dksJ6_successor_0 22 rfl rfl
theorem dksJ6_successor_2 : cJ6_successor.data.toList.drop 46 = dktJ6_successor_2 := dk_seg dksJ6_successor_1 24 rfl rfl
theorem dJ6_successor_0 : decode cJ6_successor 0 = .ok (.aload_n 0, 1) := dk_42 (dk_at dksJ6_successor_0 0 rfl rfl)
theorem dJ6_successor_1 : decode cJ6_successor 1 = .ok (.ifnonnull 5, 3) := dk_199 0 5 (dk_at dksJ6_successor_0 1 rfl rfl)
theorem dJ6_successor_4 : decode cJ6_successor 4 = .ok (.aconst_null, 1) := dk_1 (dk_at dksJ6_successor_0 4 rfl rfl)
theorem dJ6_successor_5 : decode cJ6_successor 5 = .ok (.areturn, 1) := dk_176 (dk_at dksJ6_successor_0 5 rfl rfl)
theorem dJ6_successor_6 : decode cJ6_successor 6 = .ok (.aload_n 0, 1) := dk_42 (dk_at dksJ6_successor_0 6 rfl rfl)
theorem dJ6_successor_7 : decode cJ6_successor 7 = .ok (.getfield 114, 3) := dk_180 0 114 (dk_at dksJ6_successor_0 7 rfl rfl)
theorem dJ6_successor_10 : decode cJ6_successor 10 = .ok (.ifnull 25, 3) := dk_198 0 25 (dk_at dksJ6_successor_0 10 rfl rfl)
theorem dJ6_successor_13 : decode cJ6_successor 13 = .ok (.aload_n 0, 1) := dk_42 (dk_at dksJ6_successor_0 13 rfl rfl)
theorem dJ6_successor_14 : decode cJ6_successor 14 = .ok (.getfield 114, 3) := dk_180 0 114 (dk_at dksJ6_successor_0 14 rfl rfl)
theorem dJ6_successor_17 : decode cJ6_successor 17 = .ok (.astore_n 1, 1) := dk_76 (dk_at dksJ6_successor_0 17 rfl rfl)
theorem dJ6_successor_18 : decode cJ6_successor 18 = .ok (.aload_n 1, 1) := dk_43 (dk_at dksJ6_successor_0 18 rfl rfl)
theorem dJ6_successor_19 : decode cJ6_successor 19 = .ok (.getfield 111, 3) := dk_180 0 111 (dk_at dksJ6_successor_0 19 rfl rfl)
theorem dJ6_successor_22 : decode cJ6_successor 22 = .ok (.ifnull 11, 3) := dk_198 0 11 (dk_at dksJ6_successor_1 0 rfl rfl)
theorem dJ6_successor_25 : decode cJ6_successor 25 = .ok (.aload_n 1, 1) := dk_43 (dk_at dksJ6_successor_1 3 rfl rfl)
theorem dJ6_successor_26 : decode cJ6_successor 26 = .ok (.getfield 111, 3) := dk_180 0 111 (dk_at dksJ6_successor_1 4 rfl rfl)
theorem dJ6_successor_29 : decode cJ6_successor 29 = .ok (.astore_n 1, 1) := dk_76 (dk_at dksJ6_successor_1 7 rfl rfl)
theorem dJ6_successor_30 : decode cJ6_successor 30 = .ok (.goto (-12), 3) := dk_167 255 244 (dk_at dksJ6_successor_1 8 rfl rfl)
theorem dJ6_successor_33 : decode cJ6_successor 33 = .ok (.aload_n 1, 1) := dk_43 (dk_at dksJ6_successor_1 11 rfl rfl)
theorem dJ6_successor_34 : decode cJ6_successor 34 = .ok (.areturn, 1) := dk_176 (dk_at dksJ6_successor_1 12 rfl rfl)
theorem dJ6_successor_35 : decode cJ6_successor 35 = .ok (.aload_n 0, 1) := dk_42 (dk_at dksJ6_successor_1 13 rfl rfl)
theorem dJ6_successor_36 : decode cJ6_successor 36 = .ok (.getfield 124, 3) := dk_180 0 124 (dk_at dksJ6_successor_1 14 rfl rfl)
theorem dJ6_successor_39 : decode cJ6_successor 39 = .ok (.astore_n 1, 1) := dk_76 (dk_at dksJ6_successor_1 17 rfl rfl)
theorem dJ6_successor_40 : decode cJ6_successor 40 = .ok (.aload_n 0, 1) := dk_42 (dk_at dksJ6_successor_1 18 rfl rfl)
theorem dJ6_successor_41 : decode cJ6_successor 41 = .ok (.astore_n 2, 1) := dk_77 (dk_at dksJ6_successor_1 19 rfl rfl)
theorem dJ6_successor_42 : decode cJ6_successor 42 = .ok (.aload_n 1, 1) := dk_43 (dk_at dksJ6_successor_1 20 rfl rfl)
theorem dJ6_successor_43 : decode cJ6_successor 43 = .ok (.ifnull 21, 3) := dk_198 0 21 (dk_at dksJ6_successor_1 21 rfl rfl)
theorem dJ6_successor_46 : decode cJ6_successor 46 = .ok (.aload_n 2, 1) := dk_44 (dk_at dksJ6_successor_2 0 rfl rfl)
theorem dJ6_successor_47 : decode cJ6_successor 47 = .ok (.aload_n 1, 1) := dk_43 (dk_at dksJ6_successor_2 1 rfl rfl)
theorem dJ6_successor_48 : decode cJ6_successor 48 = .ok (.getfield 114, 3) := dk_180 0 114 (dk_at dksJ6_successor_2 2 rfl rfl)
theorem dJ6_successor_51 : decode cJ6_successor 51 = .ok (.if_acmp .ne 13, 3) := dk_166 0 13 (dk_at dksJ6_successor_2 5 rfl rfl)
theorem dJ6_successor_54 : decode cJ6_successor 54 = .ok (.aload_n 1, 1) := dk_43 (dk_at dksJ6_successor_2 8 rfl rfl)
theorem dJ6_successor_55 : decode cJ6_successor 55 = .ok (.astore_n 2, 1) := dk_77 (dk_at dksJ6_successor_2 9 rfl rfl)
theorem dJ6_successor_56 : decode cJ6_successor 56 = .ok (.aload_n 1, 1) := dk_43 (dk_at dksJ6_successor_2 10 rfl rfl)
theorem dJ6_successor_57 : decode cJ6_successor 57 = .ok (.getfield 124, 3) := dk_180 0 124 (dk_at dksJ6_successor_2 11 rfl rfl)
theorem dJ6_successor_60 : decode cJ6_successor 60 = .ok (.astore_n 1, 1) := dk_76 (dk_at dksJ6_successor_2 14 rfl rfl)
theorem dJ6_successor_61 : decode cJ6_successor 61 = .ok (.goto (-19), 3) := dk_167 255 237 (dk_at dksJ6_successor_2 15 rfl rfl)
theorem dJ6_successor_64 : decode cJ6_successor 64 = .ok (.aload_n 1, 1) := dk_43 (dk_at dksJ6_successor_2 18 rfl rfl)
theorem dJ6_successor_65 : decode cJ6_successor 65 = .ok (.areturn, 1) := dk_176 (dk_at dksJ6_successor_2 19 rfl rfl)
abbrev cJ6_put : ByteArray := prog_63_method_21_code
def yJ6_put : MethodName := ⟨RJ6, "put", "(Ljava/lang/Object;Ljava/lang/Object;)Ljava/lang/Object;"⟩
def dkwJ6_put_0 : List UInt8 := [42, 43, 44, 4, 182, 0, 127, 176]
abbrev dktJ6_put_0 : List UInt8 := dkwJ6_put_0 ++ []
theorem dksJ6_put_0 : cJ6_put.data.toList.drop 0 = dktJ6_put_0 := by decide +kernel
theorem dJ6_put_0 : decode cJ6_put 0 = .ok (.aload_n 0, 1) := dk_42 (dk_at dksJ6_put_0 0 rfl rfl)
theorem dJ6_put_1 : decode cJ6_put 1 = .ok (.aload_n 1, 1) := dk_43 (dk_at dksJ6_put_0 1 rfl rfl)
theorem dJ6_put_2 : decode cJ6_put 2 = .ok (.aload_n 2, 1) := dk_44 (dk_at dksJ6_put_0 2 rfl rfl)
theorem dJ6_put_3 : decode cJ6_put 3 = .ok (.iconst 1, 1) := dk_4 (dk_at dksJ6_put_0 3 rfl rfl)
theorem dJ6_put_4 : decode cJ6_put 4 = .ok (.invokevirtual 127, 3) := dk_182 0 127 (dk_at dksJ6_put_0 4 rfl rfl)
theorem dJ6_put_7 : decode cJ6_put 7 = .ok (.areturn, 1) := dk_176 (dk_at dksJ6_put_0 7 rfl rfl)
abbrev cJ6_put_2 : ByteArray := prog_63_method_31_code
def yJ6_put_2 : MethodName := ⟨RJ6, "put", "(Ljava/lang/Object;Ljava/lang/Object;Z)Ljava/lang/Object;"⟩
def dkwJ6_put_2_9 : List UInt8 := [4, 167, 0, 4, 3, 182, 0, 139, 1, 176]
abbrev dktJ6_put_2_9 : List UInt8 := dkwJ6_put_2_9 ++ []
def dkwJ6_put_2_8 : List UInt8 := [25, 4, 44, 181, 0, 58, 25, 9, 176, 25, 4, 199, 255, 181, 42, 43, 44, 25, 6, 21, 5, 156, 0, 7]
abbrev dktJ6_put_2_8 : List UInt8 := dkwJ6_put_2_8 ++ dktJ6_put_2_9
def dkwJ6_put_2_7 : List UInt8 := [180, 0, 114, 58, 4, 167, 0, 28, 25, 4, 180, 0, 58, 58, 9, 29, 154, 0, 8, 25, 9, 199, 0, 9]
abbrev dktJ6_put_2_7 : List UInt8 := dkwJ6_put_2_7 ++ dktJ6_put_2_8
def dkwJ6_put_2_6 : List UInt8 := [21, 5, 156, 0, 13, 25, 4, 180, 0, 111, 58, 4, 167, 0, 43, 21, 5, 158, 0, 13, 25, 4]
abbrev dktJ6_put_2_6 : List UInt8 := dkwJ6_put_2_6 ++ dktJ6_put_2_7
def dkwJ6_put_2_5 : List UInt8 := [192, 0, 99, 58, 8, 25, 4, 58, 6, 25, 8, 25, 4, 180, 0, 105, 185, 0, 107, 2, 0, 54, 5]
abbrev dktJ6_put_2_5 : List UInt8 := dkwJ6_put_2_5 ++ dktJ6_put_2_6
def dkwJ6_put_2_4 : List UInt8 := [25, 4, 44, 181, 0, 58, 25, 8, 176, 25, 4, 199, 255, 180, 167, 0, 92, 43, 184, 0, 95, 87, 43]
abbrev dktJ6_put_2_4 : List UInt8 := dkwJ6_put_2_4 ++ dktJ6_put_2_5
def dkwJ6_put_2_3 : List UInt8 := [180, 0, 114, 58, 4, 167, 0, 28, 25, 4, 180, 0, 58, 58, 8, 29, 154, 0, 8, 25, 8, 199, 0, 9]
abbrev dktJ6_put_2_3 : List UInt8 := dkwJ6_put_2_3 ++ dktJ6_put_2_4
def dkwJ6_put_2_2 : List UInt8 := [54, 5, 21, 5, 156, 0, 13, 25, 4, 180, 0, 111, 58, 4, 167, 0, 43, 21, 5, 158, 0, 13, 25, 4]
abbrev dktJ6_put_2_2 : List UInt8 := dkwJ6_put_2_2 ++ dktJ6_put_2_3
def dkwJ6_put_2_1 : List UInt8 := [58, 7, 25, 7, 198, 0, 85, 25, 4, 58, 6, 25, 7, 43, 25, 4, 180, 0, 105, 185, 0, 117, 3, 0]
abbrev dktJ6_put_2_1 : List UInt8 := dkwJ6_put_2_1 ++ dktJ6_put_2_2
def dkwJ6_put_2_0 : List UInt8 := [42, 180, 0, 101, 58, 4, 25, 4, 199, 0, 11, 42, 43, 44, 182, 0, 135, 1, 176, 42, 180, 0, 16]
abbrev dktJ6_put_2_0 : List UInt8 := dkwJ6_put_2_0 ++ dktJ6_put_2_1
theorem dksJ6_put_2_0 : cJ6_put_2.data.toList.drop 0 = dktJ6_put_2_0 := by decide +kernel
theorem dksJ6_put_2_1 : cJ6_put_2.data.toList.drop 23 = dktJ6_put_2_1 := dk_seg dksJ6_put_2_0 23 rfl rfl
theorem dksJ6_put_2_2 : cJ6_put_2.data.toList.drop 47 = dktJ6_put_2_2 := dk_seg dksJ6_put_2_1 24 rfl rfl
theorem dksJ6_put_2_3 : cJ6_put_2.data.toList.drop 71 = dktJ6_put_2_3 := dk_seg dksJ6_put_2_2 24 rfl rfl
theorem dksJ6_put_2_4 : cJ6_put_2.data.toList.drop 95 = dktJ6_put_2_4 := dk_seg dksJ6_put_2_3 24 rfl rfl
theorem dksJ6_put_2_5 : cJ6_put_2.data.toList.drop 118 = dktJ6_put_2_5 := dk_seg dksJ6_put_2_4 23 rfl rfl
theorem dksJ6_put_2_6 : cJ6_put_2.data.toList.drop 141 = dktJ6_put_2_6 := dk_seg dksJ6_put_2_5 23 rfl rfl
theorem dksJ6_put_2_7 : cJ6_put_2.data.toList.drop 163 = dktJ6_put_2_7 := dk_seg dksJ6_put_2_6 22 rfl rfl
theorem dksJ6_put_2_8 : cJ6_put_2.data.toList.drop 187 = dktJ6_put_2_8 := dk_seg dksJ6_put_2_7 24 rfl rfl
theorem dksJ6_put_2_9 : cJ6_put_2.data.toList.drop 211 = dktJ6_put_2_9 := dk_seg dksJ6_put_2_8 24 rfl rfl
theorem dJ6_put_2_0 : decode cJ6_put_2 0 = .ok (.aload_n 0, 1) := dk_42 (dk_at dksJ6_put_2_0 0 rfl rfl)
theorem dJ6_put_2_1 : decode cJ6_put_2 1 = .ok (.getfield 101, 3) := dk_180 0 101 (dk_at dksJ6_put_2_0 1 rfl rfl)
theorem dJ6_put_2_4 : decode cJ6_put_2 4 = .ok (.astore 4, 2) := dk_58 4 (dk_at dksJ6_put_2_0 4 rfl rfl)
theorem dJ6_put_2_6 : decode cJ6_put_2 6 = .ok (.aload 4, 2) := dk_25 4 (dk_at dksJ6_put_2_0 6 rfl rfl)
theorem dJ6_put_2_8 : decode cJ6_put_2 8 = .ok (.ifnonnull 11, 3) := dk_199 0 11 (dk_at dksJ6_put_2_0 8 rfl rfl)
theorem dJ6_put_2_11 : decode cJ6_put_2 11 = .ok (.aload_n 0, 1) := dk_42 (dk_at dksJ6_put_2_0 11 rfl rfl)
theorem dJ6_put_2_12 : decode cJ6_put_2 12 = .ok (.aload_n 1, 1) := dk_43 (dk_at dksJ6_put_2_0 12 rfl rfl)
theorem dJ6_put_2_13 : decode cJ6_put_2 13 = .ok (.aload_n 2, 1) := dk_44 (dk_at dksJ6_put_2_0 13 rfl rfl)
theorem dJ6_put_2_14 : decode cJ6_put_2 14 = .ok (.invokevirtual 135, 3) := dk_182 0 135 (dk_at dksJ6_put_2_0 14 rfl rfl)
theorem dJ6_put_2_17 : decode cJ6_put_2 17 = .ok (.aconst_null, 1) := dk_1 (dk_at dksJ6_put_2_0 17 rfl rfl)
theorem dJ6_put_2_18 : decode cJ6_put_2 18 = .ok (.areturn, 1) := dk_176 (dk_at dksJ6_put_2_0 18 rfl rfl)
theorem dJ6_put_2_19 : decode cJ6_put_2 19 = .ok (.aload_n 0, 1) := dk_42 (dk_at dksJ6_put_2_0 19 rfl rfl)
theorem dJ6_put_2_20 : decode cJ6_put_2 20 = .ok (.getfield 16, 3) := dk_180 0 16 (dk_at dksJ6_put_2_0 20 rfl rfl)
theorem dJ6_put_2_23 : decode cJ6_put_2 23 = .ok (.astore 7, 2) := dk_58 7 (dk_at dksJ6_put_2_1 0 rfl rfl)
theorem dJ6_put_2_25 : decode cJ6_put_2 25 = .ok (.aload 7, 2) := dk_25 7 (dk_at dksJ6_put_2_1 2 rfl rfl)
theorem dJ6_put_2_27 : decode cJ6_put_2 27 = .ok (.ifnull 85, 3) := dk_198 0 85 (dk_at dksJ6_put_2_1 4 rfl rfl)
theorem dJ6_put_2_30 : decode cJ6_put_2 30 = .ok (.aload 4, 2) := dk_25 4 (dk_at dksJ6_put_2_1 7 rfl rfl)
theorem dJ6_put_2_32 : decode cJ6_put_2 32 = .ok (.astore 6, 2) := dk_58 6 (dk_at dksJ6_put_2_1 9 rfl rfl)
theorem dJ6_put_2_34 : decode cJ6_put_2 34 = .ok (.aload 7, 2) := dk_25 7 (dk_at dksJ6_put_2_1 11 rfl rfl)
theorem dJ6_put_2_36 : decode cJ6_put_2 36 = .ok (.aload_n 1, 1) := dk_43 (dk_at dksJ6_put_2_1 13 rfl rfl)
theorem dJ6_put_2_37 : decode cJ6_put_2 37 = .ok (.aload 4, 2) := dk_25 4 (dk_at dksJ6_put_2_1 14 rfl rfl)
theorem dJ6_put_2_39 : decode cJ6_put_2 39 = .ok (.getfield 105, 3) := dk_180 0 105 (dk_at dksJ6_put_2_1 16 rfl rfl)
theorem dJ6_put_2_42 : decode cJ6_put_2 42 = .ok (.invokeinterface 117 3, 5) := by decide +kernel
theorem dJ6_put_2_47 : decode cJ6_put_2 47 = .ok (.istore 5, 2) := dk_54 5 (dk_at dksJ6_put_2_2 0 rfl rfl)
theorem dJ6_put_2_49 : decode cJ6_put_2 49 = .ok (.iload 5, 2) := dk_21 5 (dk_at dksJ6_put_2_2 2 rfl rfl)
theorem dJ6_put_2_51 : decode cJ6_put_2 51 = .ok (.ifCond .ge 13, 3) := dk_156 0 13 (dk_at dksJ6_put_2_2 4 rfl rfl)
theorem dJ6_put_2_54 : decode cJ6_put_2 54 = .ok (.aload 4, 2) := dk_25 4 (dk_at dksJ6_put_2_2 7 rfl rfl)
theorem dJ6_put_2_56 : decode cJ6_put_2 56 = .ok (.getfield 111, 3) := dk_180 0 111 (dk_at dksJ6_put_2_2 9 rfl rfl)
theorem dJ6_put_2_59 : decode cJ6_put_2 59 = .ok (.astore 4, 2) := dk_58 4 (dk_at dksJ6_put_2_2 12 rfl rfl)
theorem dJ6_put_2_61 : decode cJ6_put_2 61 = .ok (.goto 43, 3) := dk_167 0 43 (dk_at dksJ6_put_2_2 14 rfl rfl)
theorem dJ6_put_2_64 : decode cJ6_put_2 64 = .ok (.iload 5, 2) := dk_21 5 (dk_at dksJ6_put_2_2 17 rfl rfl)
theorem dJ6_put_2_66 : decode cJ6_put_2 66 = .ok (.ifCond .le 13, 3) := dk_158 0 13 (dk_at dksJ6_put_2_2 19 rfl rfl)
theorem dJ6_put_2_69 : decode cJ6_put_2 69 = .ok (.aload 4, 2) := dk_25 4 (dk_at dksJ6_put_2_2 22 rfl rfl)
theorem dJ6_put_2_71 : decode cJ6_put_2 71 = .ok (.getfield 114, 3) := dk_180 0 114 (dk_at dksJ6_put_2_3 0 rfl rfl)
theorem dJ6_put_2_74 : decode cJ6_put_2 74 = .ok (.astore 4, 2) := dk_58 4 (dk_at dksJ6_put_2_3 3 rfl rfl)
theorem dJ6_put_2_76 : decode cJ6_put_2 76 = .ok (.goto 28, 3) := dk_167 0 28 (dk_at dksJ6_put_2_3 5 rfl rfl)
theorem dJ6_put_2_79 : decode cJ6_put_2 79 = .ok (.aload 4, 2) := dk_25 4 (dk_at dksJ6_put_2_3 8 rfl rfl)
theorem dJ6_put_2_81 : decode cJ6_put_2 81 = .ok (.getfield 58, 3) := dk_180 0 58 (dk_at dksJ6_put_2_3 10 rfl rfl)
theorem dJ6_put_2_84 : decode cJ6_put_2 84 = .ok (.astore 8, 2) := dk_58 8 (dk_at dksJ6_put_2_3 13 rfl rfl)
theorem dJ6_put_2_86 : decode cJ6_put_2 86 = .ok (.iload_n 3, 1) := dk_29 (dk_at dksJ6_put_2_3 15 rfl rfl)
theorem dJ6_put_2_87 : decode cJ6_put_2 87 = .ok (.ifCond .ne 8, 3) := dk_154 0 8 (dk_at dksJ6_put_2_3 16 rfl rfl)
theorem dJ6_put_2_90 : decode cJ6_put_2 90 = .ok (.aload 8, 2) := dk_25 8 (dk_at dksJ6_put_2_3 19 rfl rfl)
theorem dJ6_put_2_92 : decode cJ6_put_2 92 = .ok (.ifnonnull 9, 3) := dk_199 0 9 (dk_at dksJ6_put_2_3 21 rfl rfl)
theorem dJ6_put_2_95 : decode cJ6_put_2 95 = .ok (.aload 4, 2) := dk_25 4 (dk_at dksJ6_put_2_4 0 rfl rfl)
theorem dJ6_put_2_97 : decode cJ6_put_2 97 = .ok (.aload_n 2, 1) := dk_44 (dk_at dksJ6_put_2_4 2 rfl rfl)
theorem dJ6_put_2_98 : decode cJ6_put_2 98 = .ok (.putfield 58, 3) := dk_181 0 58 (dk_at dksJ6_put_2_4 3 rfl rfl)
theorem dJ6_put_2_101 : decode cJ6_put_2 101 = .ok (.aload 8, 2) := dk_25 8 (dk_at dksJ6_put_2_4 6 rfl rfl)
theorem dJ6_put_2_103 : decode cJ6_put_2 103 = .ok (.areturn, 1) := dk_176 (dk_at dksJ6_put_2_4 8 rfl rfl)
theorem dJ6_put_2_104 : decode cJ6_put_2 104 = .ok (.aload 4, 2) := dk_25 4 (dk_at dksJ6_put_2_4 9 rfl rfl)
theorem dJ6_put_2_106 : decode cJ6_put_2 106 = .ok (.ifnonnull (-76), 3) := dk_199 255 180 (dk_at dksJ6_put_2_4 11 rfl rfl)
theorem dJ6_put_2_109 : decode cJ6_put_2 109 = .ok (.goto 92, 3) := dk_167 0 92 (dk_at dksJ6_put_2_4 14 rfl rfl)
theorem dJ6_put_2_112 : decode cJ6_put_2 112 = .ok (.aload_n 1, 1) := dk_43 (dk_at dksJ6_put_2_4 17 rfl rfl)
theorem dJ6_put_2_113 : decode cJ6_put_2 113 = .ok (.invokestatic 95, 3) := dk_184 0 95 (dk_at dksJ6_put_2_4 18 rfl rfl)
theorem dJ6_put_2_116 : decode cJ6_put_2 116 = .ok (.pop, 1) := dk_87 (dk_at dksJ6_put_2_4 21 rfl rfl)
theorem dJ6_put_2_117 : decode cJ6_put_2 117 = .ok (.aload_n 1, 1) := dk_43 (dk_at dksJ6_put_2_4 22 rfl rfl)
theorem dJ6_put_2_118 : decode cJ6_put_2 118 = .ok (.checkcast 99, 3) := dk_192 0 99 (dk_at dksJ6_put_2_5 0 rfl rfl)
theorem dJ6_put_2_121 : decode cJ6_put_2 121 = .ok (.astore 8, 2) := dk_58 8 (dk_at dksJ6_put_2_5 3 rfl rfl)
theorem dJ6_put_2_123 : decode cJ6_put_2 123 = .ok (.aload 4, 2) := dk_25 4 (dk_at dksJ6_put_2_5 5 rfl rfl)
theorem dJ6_put_2_125 : decode cJ6_put_2 125 = .ok (.astore 6, 2) := dk_58 6 (dk_at dksJ6_put_2_5 7 rfl rfl)
theorem dJ6_put_2_127 : decode cJ6_put_2 127 = .ok (.aload 8, 2) := dk_25 8 (dk_at dksJ6_put_2_5 9 rfl rfl)
theorem dJ6_put_2_129 : decode cJ6_put_2 129 = .ok (.aload 4, 2) := dk_25 4 (dk_at dksJ6_put_2_5 11 rfl rfl)
theorem dJ6_put_2_131 : decode cJ6_put_2 131 = .ok (.getfield 105, 3) := dk_180 0 105 (dk_at dksJ6_put_2_5 13 rfl rfl)
theorem dJ6_put_2_134 : decode cJ6_put_2 134 = .ok (.invokeinterface 107 2, 5) := by decide +kernel
theorem dJ6_put_2_139 : decode cJ6_put_2 139 = .ok (.istore 5, 2) := dk_54 5 (dk_at dksJ6_put_2_5 21 rfl rfl)
theorem dJ6_put_2_141 : decode cJ6_put_2 141 = .ok (.iload 5, 2) := dk_21 5 (dk_at dksJ6_put_2_6 0 rfl rfl)
theorem dJ6_put_2_143 : decode cJ6_put_2 143 = .ok (.ifCond .ge 13, 3) := dk_156 0 13 (dk_at dksJ6_put_2_6 2 rfl rfl)
theorem dJ6_put_2_146 : decode cJ6_put_2 146 = .ok (.aload 4, 2) := dk_25 4 (dk_at dksJ6_put_2_6 5 rfl rfl)
theorem dJ6_put_2_148 : decode cJ6_put_2 148 = .ok (.getfield 111, 3) := dk_180 0 111 (dk_at dksJ6_put_2_6 7 rfl rfl)
theorem dJ6_put_2_151 : decode cJ6_put_2 151 = .ok (.astore 4, 2) := dk_58 4 (dk_at dksJ6_put_2_6 10 rfl rfl)
theorem dJ6_put_2_153 : decode cJ6_put_2 153 = .ok (.goto 43, 3) := dk_167 0 43 (dk_at dksJ6_put_2_6 12 rfl rfl)
theorem dJ6_put_2_156 : decode cJ6_put_2 156 = .ok (.iload 5, 2) := dk_21 5 (dk_at dksJ6_put_2_6 15 rfl rfl)
theorem dJ6_put_2_158 : decode cJ6_put_2 158 = .ok (.ifCond .le 13, 3) := dk_158 0 13 (dk_at dksJ6_put_2_6 17 rfl rfl)
theorem dJ6_put_2_161 : decode cJ6_put_2 161 = .ok (.aload 4, 2) := dk_25 4 (dk_at dksJ6_put_2_6 20 rfl rfl)
theorem dJ6_put_2_163 : decode cJ6_put_2 163 = .ok (.getfield 114, 3) := dk_180 0 114 (dk_at dksJ6_put_2_7 0 rfl rfl)
theorem dJ6_put_2_166 : decode cJ6_put_2 166 = .ok (.astore 4, 2) := dk_58 4 (dk_at dksJ6_put_2_7 3 rfl rfl)
theorem dJ6_put_2_168 : decode cJ6_put_2 168 = .ok (.goto 28, 3) := dk_167 0 28 (dk_at dksJ6_put_2_7 5 rfl rfl)
theorem dJ6_put_2_171 : decode cJ6_put_2 171 = .ok (.aload 4, 2) := dk_25 4 (dk_at dksJ6_put_2_7 8 rfl rfl)
theorem dJ6_put_2_173 : decode cJ6_put_2 173 = .ok (.getfield 58, 3) := dk_180 0 58 (dk_at dksJ6_put_2_7 10 rfl rfl)
theorem dJ6_put_2_176 : decode cJ6_put_2 176 = .ok (.astore 9, 2) := dk_58 9 (dk_at dksJ6_put_2_7 13 rfl rfl)
theorem dJ6_put_2_178 : decode cJ6_put_2 178 = .ok (.iload_n 3, 1) := dk_29 (dk_at dksJ6_put_2_7 15 rfl rfl)
theorem dJ6_put_2_179 : decode cJ6_put_2 179 = .ok (.ifCond .ne 8, 3) := dk_154 0 8 (dk_at dksJ6_put_2_7 16 rfl rfl)
theorem dJ6_put_2_182 : decode cJ6_put_2 182 = .ok (.aload 9, 2) := dk_25 9 (dk_at dksJ6_put_2_7 19 rfl rfl)
theorem dJ6_put_2_184 : decode cJ6_put_2 184 = .ok (.ifnonnull 9, 3) := dk_199 0 9 (dk_at dksJ6_put_2_7 21 rfl rfl)
theorem dJ6_put_2_187 : decode cJ6_put_2 187 = .ok (.aload 4, 2) := dk_25 4 (dk_at dksJ6_put_2_8 0 rfl rfl)
theorem dJ6_put_2_189 : decode cJ6_put_2 189 = .ok (.aload_n 2, 1) := dk_44 (dk_at dksJ6_put_2_8 2 rfl rfl)
theorem dJ6_put_2_190 : decode cJ6_put_2 190 = .ok (.putfield 58, 3) := dk_181 0 58 (dk_at dksJ6_put_2_8 3 rfl rfl)
theorem dJ6_put_2_193 : decode cJ6_put_2 193 = .ok (.aload 9, 2) := dk_25 9 (dk_at dksJ6_put_2_8 6 rfl rfl)
theorem dJ6_put_2_195 : decode cJ6_put_2 195 = .ok (.areturn, 1) := dk_176 (dk_at dksJ6_put_2_8 8 rfl rfl)
theorem dJ6_put_2_196 : decode cJ6_put_2 196 = .ok (.aload 4, 2) := dk_25 4 (dk_at dksJ6_put_2_8 9 rfl rfl)
theorem dJ6_put_2_198 : decode cJ6_put_2 198 = .ok (.ifnonnull (-75), 3) := dk_199 255 181 (dk_at dksJ6_put_2_8 11 rfl rfl)
theorem dJ6_put_2_201 : decode cJ6_put_2 201 = .ok (.aload_n 0, 1) := dk_42 (dk_at dksJ6_put_2_8 14 rfl rfl)
theorem dJ6_put_2_202 : decode cJ6_put_2 202 = .ok (.aload_n 1, 1) := dk_43 (dk_at dksJ6_put_2_8 15 rfl rfl)
theorem dJ6_put_2_203 : decode cJ6_put_2 203 = .ok (.aload_n 2, 1) := dk_44 (dk_at dksJ6_put_2_8 16 rfl rfl)
theorem dJ6_put_2_204 : decode cJ6_put_2 204 = .ok (.aload 6, 2) := dk_25 6 (dk_at dksJ6_put_2_8 17 rfl rfl)
theorem dJ6_put_2_206 : decode cJ6_put_2 206 = .ok (.iload 5, 2) := dk_21 5 (dk_at dksJ6_put_2_8 19 rfl rfl)
theorem dJ6_put_2_208 : decode cJ6_put_2 208 = .ok (.ifCond .ge 7, 3) := dk_156 0 7 (dk_at dksJ6_put_2_8 21 rfl rfl)
theorem dJ6_put_2_211 : decode cJ6_put_2 211 = .ok (.iconst 1, 1) := dk_4 (dk_at dksJ6_put_2_9 0 rfl rfl)
theorem dJ6_put_2_212 : decode cJ6_put_2 212 = .ok (.goto 4, 3) := dk_167 0 4 (dk_at dksJ6_put_2_9 1 rfl rfl)
theorem dJ6_put_2_215 : decode cJ6_put_2 215 = .ok (.iconst 0, 1) := dk_3 (dk_at dksJ6_put_2_9 4 rfl rfl)
theorem dJ6_put_2_216 : decode cJ6_put_2 216 = .ok (.invokevirtual 139, 3) := dk_182 0 139 (dk_at dksJ6_put_2_9 5 rfl rfl)
theorem dJ6_put_2_219 : decode cJ6_put_2 219 = .ok (.aconst_null, 1) := dk_1 (dk_at dksJ6_put_2_9 8 rfl rfl)
theorem dJ6_put_2_220 : decode cJ6_put_2 220 = .ok (.areturn, 1) := dk_176 (dk_at dksJ6_put_2_9 9 rfl rfl)
abbrev cJ6_addEntryToEmptyMap : ByteArray := prog_63_method_30_code
def yJ6_addEntryToEmptyMap : MethodName := ⟨RJ6, "addEntryToEmptyMap", "(Ljava/lang/Object;Ljava/lang/Object;)V"⟩
def dkwJ6_addEntryToEmptyMap_1 : List UInt8 := [181, 0, 7, 42, 89, 180, 0, 13, 4, 96, 181, 0, 13, 177]
abbrev dktJ6_addEntryToEmptyMap_1 : List UInt8 := dkwJ6_addEntryToEmptyMap_1 ++ []
def dkwJ6_addEntryToEmptyMap_0 : List UInt8 := [42, 43, 43, 182, 0, 123, 87, 42, 187, 0, 59, 89, 43, 44, 1, 183, 0, 167, 181, 0, 101, 42, 4]
abbrev dktJ6_addEntryToEmptyMap_0 : List UInt8 := dkwJ6_addEntryToEmptyMap_0 ++ dktJ6_addEntryToEmptyMap_1
theorem dksJ6_addEntryToEmptyMap_0 : cJ6_addEntryToEmptyMap.data.toList.drop 0 = dktJ6_addEntryToEmptyMap_0 := by decide +kernel
theorem dksJ6_addEntryToEmptyMap_1 : cJ6_addEntryToEmptyMap.data.toList.drop 23 = dktJ6_addEntryToEmptyMap_1 := dk_seg dksJ6_addEntryToEmptyMap_0 23 rfl rfl
theorem dJ6_addEntryToEmptyMap_0 : decode cJ6_addEntryToEmptyMap 0 = .ok (.aload_n 0, 1) := dk_42 (dk_at dksJ6_addEntryToEmptyMap_0 0 rfl rfl)
theorem dJ6_addEntryToEmptyMap_1 : decode cJ6_addEntryToEmptyMap 1 = .ok (.aload_n 1, 1) := dk_43 (dk_at dksJ6_addEntryToEmptyMap_0 1 rfl rfl)
theorem dJ6_addEntryToEmptyMap_2 : decode cJ6_addEntryToEmptyMap 2 = .ok (.aload_n 1, 1) := dk_43 (dk_at dksJ6_addEntryToEmptyMap_0 2 rfl rfl)
theorem dJ6_addEntryToEmptyMap_3 : decode cJ6_addEntryToEmptyMap 3 = .ok (.invokevirtual 123, 3) := dk_182 0 123 (dk_at dksJ6_addEntryToEmptyMap_0 3 rfl rfl)
theorem dJ6_addEntryToEmptyMap_6 : decode cJ6_addEntryToEmptyMap 6 = .ok (.pop, 1) := dk_87 (dk_at dksJ6_addEntryToEmptyMap_0 6 rfl rfl)
theorem dJ6_addEntryToEmptyMap_7 : decode cJ6_addEntryToEmptyMap 7 = .ok (.aload_n 0, 1) := dk_42 (dk_at dksJ6_addEntryToEmptyMap_0 7 rfl rfl)
theorem dJ6_addEntryToEmptyMap_8 : decode cJ6_addEntryToEmptyMap 8 = .ok (.new 59, 3) := dk_187 0 59 (dk_at dksJ6_addEntryToEmptyMap_0 8 rfl rfl)
theorem dJ6_addEntryToEmptyMap_11 : decode cJ6_addEntryToEmptyMap 11 = .ok (.dup, 1) := dk_89 (dk_at dksJ6_addEntryToEmptyMap_0 11 rfl rfl)
theorem dJ6_addEntryToEmptyMap_12 : decode cJ6_addEntryToEmptyMap 12 = .ok (.aload_n 1, 1) := dk_43 (dk_at dksJ6_addEntryToEmptyMap_0 12 rfl rfl)
theorem dJ6_addEntryToEmptyMap_13 : decode cJ6_addEntryToEmptyMap 13 = .ok (.aload_n 2, 1) := dk_44 (dk_at dksJ6_addEntryToEmptyMap_0 13 rfl rfl)
theorem dJ6_addEntryToEmptyMap_14 : decode cJ6_addEntryToEmptyMap 14 = .ok (.aconst_null, 1) := dk_1 (dk_at dksJ6_addEntryToEmptyMap_0 14 rfl rfl)
theorem dJ6_addEntryToEmptyMap_15 : decode cJ6_addEntryToEmptyMap 15 = .ok (.invokespecial 167, 3) := dk_183 0 167 (dk_at dksJ6_addEntryToEmptyMap_0 15 rfl rfl)
theorem dJ6_addEntryToEmptyMap_18 : decode cJ6_addEntryToEmptyMap 18 = .ok (.putfield 101, 3) := dk_181 0 101 (dk_at dksJ6_addEntryToEmptyMap_0 18 rfl rfl)
theorem dJ6_addEntryToEmptyMap_21 : decode cJ6_addEntryToEmptyMap 21 = .ok (.aload_n 0, 1) := dk_42 (dk_at dksJ6_addEntryToEmptyMap_0 21 rfl rfl)
theorem dJ6_addEntryToEmptyMap_22 : decode cJ6_addEntryToEmptyMap 22 = .ok (.iconst 1, 1) := dk_4 (dk_at dksJ6_addEntryToEmptyMap_0 22 rfl rfl)
theorem dJ6_addEntryToEmptyMap_23 : decode cJ6_addEntryToEmptyMap 23 = .ok (.putfield 7, 3) := dk_181 0 7 (dk_at dksJ6_addEntryToEmptyMap_1 0 rfl rfl)
theorem dJ6_addEntryToEmptyMap_26 : decode cJ6_addEntryToEmptyMap 26 = .ok (.aload_n 0, 1) := dk_42 (dk_at dksJ6_addEntryToEmptyMap_1 3 rfl rfl)
theorem dJ6_addEntryToEmptyMap_27 : decode cJ6_addEntryToEmptyMap 27 = .ok (.dup, 1) := dk_89 (dk_at dksJ6_addEntryToEmptyMap_1 4 rfl rfl)
theorem dJ6_addEntryToEmptyMap_28 : decode cJ6_addEntryToEmptyMap 28 = .ok (.getfield 13, 3) := dk_180 0 13 (dk_at dksJ6_addEntryToEmptyMap_1 5 rfl rfl)
theorem dJ6_addEntryToEmptyMap_31 : decode cJ6_addEntryToEmptyMap 31 = .ok (.iconst 1, 1) := dk_4 (dk_at dksJ6_addEntryToEmptyMap_1 8 rfl rfl)
theorem dJ6_addEntryToEmptyMap_32 : decode cJ6_addEntryToEmptyMap 32 = .ok (.iadd, 1) := dk_96 (dk_at dksJ6_addEntryToEmptyMap_1 9 rfl rfl)
theorem dJ6_addEntryToEmptyMap_33 : decode cJ6_addEntryToEmptyMap 33 = .ok (.putfield 13, 3) := dk_181 0 13 (dk_at dksJ6_addEntryToEmptyMap_1 10 rfl rfl)
theorem dJ6_addEntryToEmptyMap_36 : decode cJ6_addEntryToEmptyMap 36 = .ok (.return_, 1) := dk_177 (dk_at dksJ6_addEntryToEmptyMap_1 13 rfl rfl)
abbrev cJ6_compare : ByteArray := prog_63_method_67_code
def yJ6_compare : MethodName := ⟨RJ6, "compare", "(Ljava/lang/Object;Ljava/lang/Object;)I"⟩
def dkwJ6_compare_1 : List UInt8 := [43, 44, 185, 0, 117, 3, 0, 172]
abbrev dktJ6_compare_1 : List UInt8 := dkwJ6_compare_1 ++ []
def dkwJ6_compare_0 : List UInt8 := [42, 180, 0, 16, 199, 0, 16, 43, 192, 0, 99, 44, 185, 0, 107, 2, 0, 167, 0, 14, 42, 180, 0, 16]
abbrev dktJ6_compare_0 : List UInt8 := dkwJ6_compare_0 ++ dktJ6_compare_1
theorem dksJ6_compare_0 : cJ6_compare.data.toList.drop 0 = dktJ6_compare_0 := by decide +kernel
theorem dksJ6_compare_1 : cJ6_compare.data.toList.drop 24 = dktJ6_compare_1 := dk_seg dksJ6_compare_0 24 rfl rfl
theorem dJ6_compare_0 : decode cJ6_compare 0 = .ok (.aload_n 0, 1) := dk_42 (dk_at dksJ6_compare_0 0 rfl rfl)
theorem dJ6_compare_1 : decode cJ6_compare 1 = .ok (.getfield 16, 3) := dk_180 0 16 (dk_at dksJ6_compare_0 1 rfl rfl)
theorem dJ6_compare_4 : decode cJ6_compare 4 = .ok (.ifnonnull 16, 3) := dk_199 0 16 (dk_at dksJ6_compare_0 4 rfl rfl)
theorem dJ6_compare_7 : decode cJ6_compare 7 = .ok (.aload_n 1, 1) := dk_43 (dk_at dksJ6_compare_0 7 rfl rfl)
theorem dJ6_compare_8 : decode cJ6_compare 8 = .ok (.checkcast 99, 3) := dk_192 0 99 (dk_at dksJ6_compare_0 8 rfl rfl)
theorem dJ6_compare_11 : decode cJ6_compare 11 = .ok (.aload_n 2, 1) := dk_44 (dk_at dksJ6_compare_0 11 rfl rfl)
theorem dJ6_compare_12 : decode cJ6_compare 12 = .ok (.invokeinterface 107 2, 5) := by decide +kernel
theorem dJ6_compare_17 : decode cJ6_compare 17 = .ok (.goto 14, 3) := dk_167 0 14 (dk_at dksJ6_compare_0 17 rfl rfl)
theorem dJ6_compare_20 : decode cJ6_compare 20 = .ok (.aload_n 0, 1) := dk_42 (dk_at dksJ6_compare_0 20 rfl rfl)
theorem dJ6_compare_21 : decode cJ6_compare 21 = .ok (.getfield 16, 3) := dk_180 0 16 (dk_at dksJ6_compare_0 21 rfl rfl)
theorem dJ6_compare_24 : decode cJ6_compare 24 = .ok (.aload_n 1, 1) := dk_43 (dk_at dksJ6_compare_1 0 rfl rfl)
theorem dJ6_compare_25 : decode cJ6_compare 25 = .ok (.aload_n 2, 1) := dk_44 (dk_at dksJ6_compare_1 1 rfl rfl)
theorem dJ6_compare_26 : decode cJ6_compare 26 = .ok (.invokeinterface 117 3, 5) := by decide +kernel
theorem dJ6_compare_31 : decode cJ6_compare 31 = .ok (.ireturn, 1) := dk_172 (dk_at dksJ6_compare_1 7 rfl rfl)
abbrev cJ6_addEntry : ByteArray := prog_63_method_29_code
def yJ6_addEntry : MethodName := ⟨RJ6, "addEntry", "(Ljava/lang/Object;Ljava/lang/Object;Ljava/util/TreeMap$Entry;Z)V"⟩
def dkwJ6_addEntry_2 : List UInt8 := [181, 0, 7, 42, 89, 180, 0, 13, 4, 96, 181, 0, 13, 177]
abbrev dktJ6_addEntry_2 : List UInt8 := dkwJ6_addEntry_2 ++ []
def dkwJ6_addEntry_1 : List UInt8 := [167, 0, 9, 45, 25, 5, 181, 0, 114, 42, 25, 5, 182, 0, 170, 42, 89, 180, 0, 7, 4, 96]
abbrev dktJ6_addEntry_1 : List UInt8 := dkwJ6_addEntry_1 ++ dktJ6_addEntry_2
def dkwJ6_addEntry_0 : List UInt8 := [187, 0, 59, 89, 43, 44, 45, 183, 0, 167, 58, 5, 21, 4, 153, 0, 12, 45, 25, 5, 181, 0, 111]
abbrev dktJ6_addEntry_0 : List UInt8 := dkwJ6_addEntry_0 ++ dktJ6_addEntry_1
theorem dksJ6_addEntry_0 : cJ6_addEntry.data.toList.drop 0 = dktJ6_addEntry_0 := by decide +kernel
theorem dksJ6_addEntry_1 : cJ6_addEntry.data.toList.drop 23 = dktJ6_addEntry_1 := dk_seg dksJ6_addEntry_0 23 rfl rfl
theorem dksJ6_addEntry_2 : cJ6_addEntry.data.toList.drop 45 = dktJ6_addEntry_2 := dk_seg dksJ6_addEntry_1 22 rfl rfl
theorem dJ6_addEntry_0 : decode cJ6_addEntry 0 = .ok (.new 59, 3) := dk_187 0 59 (dk_at dksJ6_addEntry_0 0 rfl rfl)
theorem dJ6_addEntry_3 : decode cJ6_addEntry 3 = .ok (.dup, 1) := dk_89 (dk_at dksJ6_addEntry_0 3 rfl rfl)
theorem dJ6_addEntry_4 : decode cJ6_addEntry 4 = .ok (.aload_n 1, 1) := dk_43 (dk_at dksJ6_addEntry_0 4 rfl rfl)
theorem dJ6_addEntry_5 : decode cJ6_addEntry 5 = .ok (.aload_n 2, 1) := dk_44 (dk_at dksJ6_addEntry_0 5 rfl rfl)
theorem dJ6_addEntry_6 : decode cJ6_addEntry 6 = .ok (.aload_n 3, 1) := dk_45 (dk_at dksJ6_addEntry_0 6 rfl rfl)
theorem dJ6_addEntry_7 : decode cJ6_addEntry 7 = .ok (.invokespecial 167, 3) := dk_183 0 167 (dk_at dksJ6_addEntry_0 7 rfl rfl)
theorem dJ6_addEntry_10 : decode cJ6_addEntry 10 = .ok (.astore 5, 2) := dk_58 5 (dk_at dksJ6_addEntry_0 10 rfl rfl)
theorem dJ6_addEntry_12 : decode cJ6_addEntry 12 = .ok (.iload 4, 2) := dk_21 4 (dk_at dksJ6_addEntry_0 12 rfl rfl)
theorem dJ6_addEntry_14 : decode cJ6_addEntry 14 = .ok (.ifCond .eq 12, 3) := dk_153 0 12 (dk_at dksJ6_addEntry_0 14 rfl rfl)
theorem dJ6_addEntry_17 : decode cJ6_addEntry 17 = .ok (.aload_n 3, 1) := dk_45 (dk_at dksJ6_addEntry_0 17 rfl rfl)
theorem dJ6_addEntry_18 : decode cJ6_addEntry 18 = .ok (.aload 5, 2) := dk_25 5 (dk_at dksJ6_addEntry_0 18 rfl rfl)
theorem dJ6_addEntry_20 : decode cJ6_addEntry 20 = .ok (.putfield 111, 3) := dk_181 0 111 (dk_at dksJ6_addEntry_0 20 rfl rfl)
theorem dJ6_addEntry_23 : decode cJ6_addEntry 23 = .ok (.goto 9, 3) := dk_167 0 9 (dk_at dksJ6_addEntry_1 0 rfl rfl)
theorem dJ6_addEntry_26 : decode cJ6_addEntry 26 = .ok (.aload_n 3, 1) := dk_45 (dk_at dksJ6_addEntry_1 3 rfl rfl)
theorem dJ6_addEntry_27 : decode cJ6_addEntry 27 = .ok (.aload 5, 2) := dk_25 5 (dk_at dksJ6_addEntry_1 4 rfl rfl)
theorem dJ6_addEntry_29 : decode cJ6_addEntry 29 = .ok (.putfield 114, 3) := dk_181 0 114 (dk_at dksJ6_addEntry_1 6 rfl rfl)
theorem dJ6_addEntry_32 : decode cJ6_addEntry 32 = .ok (.aload_n 0, 1) := dk_42 (dk_at dksJ6_addEntry_1 9 rfl rfl)
theorem dJ6_addEntry_33 : decode cJ6_addEntry 33 = .ok (.aload 5, 2) := dk_25 5 (dk_at dksJ6_addEntry_1 10 rfl rfl)
theorem dJ6_addEntry_35 : decode cJ6_addEntry 35 = .ok (.invokevirtual 170, 3) := dk_182 0 170 (dk_at dksJ6_addEntry_1 12 rfl rfl)
theorem dJ6_addEntry_38 : decode cJ6_addEntry 38 = .ok (.aload_n 0, 1) := dk_42 (dk_at dksJ6_addEntry_1 15 rfl rfl)
theorem dJ6_addEntry_39 : decode cJ6_addEntry 39 = .ok (.dup, 1) := dk_89 (dk_at dksJ6_addEntry_1 16 rfl rfl)
theorem dJ6_addEntry_40 : decode cJ6_addEntry 40 = .ok (.getfield 7, 3) := dk_180 0 7 (dk_at dksJ6_addEntry_1 17 rfl rfl)
theorem dJ6_addEntry_43 : decode cJ6_addEntry 43 = .ok (.iconst 1, 1) := dk_4 (dk_at dksJ6_addEntry_1 20 rfl rfl)
theorem dJ6_addEntry_44 : decode cJ6_addEntry 44 = .ok (.iadd, 1) := dk_96 (dk_at dksJ6_addEntry_1 21 rfl rfl)
theorem dJ6_addEntry_45 : decode cJ6_addEntry 45 = .ok (.putfield 7, 3) := dk_181 0 7 (dk_at dksJ6_addEntry_2 0 rfl rfl)
theorem dJ6_addEntry_48 : decode cJ6_addEntry 48 = .ok (.aload_n 0, 1) := dk_42 (dk_at dksJ6_addEntry_2 3 rfl rfl)
theorem dJ6_addEntry_49 : decode cJ6_addEntry 49 = .ok (.dup, 1) := dk_89 (dk_at dksJ6_addEntry_2 4 rfl rfl)
theorem dJ6_addEntry_50 : decode cJ6_addEntry 50 = .ok (.getfield 13, 3) := dk_180 0 13 (dk_at dksJ6_addEntry_2 5 rfl rfl)
theorem dJ6_addEntry_53 : decode cJ6_addEntry 53 = .ok (.iconst 1, 1) := dk_4 (dk_at dksJ6_addEntry_2 8 rfl rfl)
theorem dJ6_addEntry_54 : decode cJ6_addEntry 54 = .ok (.iadd, 1) := dk_96 (dk_at dksJ6_addEntry_2 9 rfl rfl)
theorem dJ6_addEntry_55 : decode cJ6_addEntry 55 = .ok (.putfield 13, 3) := dk_181 0 13 (dk_at dksJ6_addEntry_2 10 rfl rfl)
theorem dJ6_addEntry_58 : decode cJ6_addEntry 58 = .ok (.return_, 1) := dk_177 (dk_at dksJ6_addEntry_2 13 rfl rfl)
abbrev cJ6_fixAfterInsertion : ByteArray := prog_63_method_83_code
def yJ6_fixAfterInsertion : MethodName := ⟨RJ6, "fixAfterInsertion", "(Ljava/util/TreeMap$Entry;)V"⟩
def dkwJ6_fixAfterInsertion_11 : List UInt8 := [42, 180, 0, 101, 4, 181, 1, 34, 177]
abbrev dktJ6_fixAfterInsertion_11 : List UInt8 := dkwJ6_fixAfterInsertion_11 ++ []
def dkwJ6_fixAfterInsertion_10 : List UInt8 := [184, 1, 38, 184, 1, 38, 3, 184, 1, 51, 42, 43, 184, 1, 38, 184, 1, 38, 182, 1, 55, 167, 255, 6]
abbrev dktJ6_fixAfterInsertion_10 : List UInt8 := dkwJ6_fixAfterInsertion_10 ++ dktJ6_fixAfterInsertion_11
def dkwJ6_fixAfterInsertion_9 : List UInt8 := [166, 0, 13, 43, 184, 1, 38, 76, 42, 43, 182, 1, 58, 43, 184, 1, 38, 4, 184, 1, 51, 43]
abbrev dktJ6_fixAfterInsertion_9 : List UInt8 := dkwJ6_fixAfterInsertion_9 ++ dktJ6_fixAfterInsertion_10
def dkwJ6_fixAfterInsertion_8 : List UInt8 := [184, 1, 51, 43, 184, 1, 38, 184, 1, 38, 76, 167, 0, 54, 43, 43, 184, 1, 38, 184, 1, 41]
abbrev dktJ6_fixAfterInsertion_8 : List UInt8 := dkwJ6_fixAfterInsertion_8 ++ dktJ6_fixAfterInsertion_9
def dkwJ6_fixAfterInsertion_7 : List UInt8 := [154, 0, 38, 43, 184, 1, 38, 4, 184, 1, 51, 44, 4, 184, 1, 51, 43, 184, 1, 38, 184, 1, 38, 3]
abbrev dktJ6_fixAfterInsertion_7 : List UInt8 := dkwJ6_fixAfterInsertion_7 ++ dktJ6_fixAfterInsertion_8
def dkwJ6_fixAfterInsertion_6 : List UInt8 := [184, 1, 38, 182, 1, 58, 167, 255, 113, 43, 184, 1, 38, 184, 1, 38, 184, 1, 41, 77, 44, 184, 1, 47]
abbrev dktJ6_fixAfterInsertion_6 : List UInt8 := dkwJ6_fixAfterInsertion_6 ++ dktJ6_fixAfterInsertion_7
def dkwJ6_fixAfterInsertion_5 : List UInt8 := [43, 184, 1, 38, 4, 184, 1, 51, 43, 184, 1, 38, 184, 1, 38, 3, 184, 1, 51, 42, 43, 184, 1, 38]
abbrev dktJ6_fixAfterInsertion_5 : List UInt8 := dkwJ6_fixAfterInsertion_5 ++ dktJ6_fixAfterInsertion_6
def dkwJ6_fixAfterInsertion_4 : List UInt8 := [167, 0, 54, 43, 43, 184, 1, 38, 184, 1, 44, 166, 0, 13, 43, 184, 1, 38, 76, 42, 43, 182, 1, 55]
abbrev dktJ6_fixAfterInsertion_4 : List UInt8 := dkwJ6_fixAfterInsertion_4 ++ dktJ6_fixAfterInsertion_5
def dkwJ6_fixAfterInsertion_3 : List UInt8 := [184, 1, 51, 43, 184, 1, 38, 184, 1, 38, 3, 184, 1, 51, 43, 184, 1, 38, 184, 1, 38, 76]
abbrev dktJ6_fixAfterInsertion_3 : List UInt8 := dkwJ6_fixAfterInsertion_3 ++ dktJ6_fixAfterInsertion_4
def dkwJ6_fixAfterInsertion_2 : List UInt8 := [184, 1, 38, 184, 1, 44, 77, 44, 184, 1, 47, 154, 0, 38, 43, 184, 1, 38, 4, 184, 1, 51, 44, 4]
abbrev dktJ6_fixAfterInsertion_2 : List UInt8 := dkwJ6_fixAfterInsertion_2 ++ dktJ6_fixAfterInsertion_3
def dkwJ6_fixAfterInsertion_1 : List UInt8 := [154, 0, 234, 43, 184, 1, 38, 43, 184, 1, 38, 184, 1, 38, 184, 1, 41, 166, 0, 110, 43, 184, 1, 38]
abbrev dktJ6_fixAfterInsertion_1 : List UInt8 := dkwJ6_fixAfterInsertion_1 ++ dktJ6_fixAfterInsertion_2
def dkwJ6_fixAfterInsertion_0 : List UInt8 := [43, 3, 181, 1, 34, 43, 198, 0, 252, 43, 42, 180, 0, 101, 165, 0, 244, 43, 180, 0, 124, 180, 1, 34]
abbrev dktJ6_fixAfterInsertion_0 : List UInt8 := dkwJ6_fixAfterInsertion_0 ++ dktJ6_fixAfterInsertion_1
theorem dksJ6_fixAfterInsertion_0 : cJ6_fixAfterInsertion.data.toList.drop 0 = dktJ6_fixAfterInsertion_0 := by decide +kernel
theorem dksJ6_fixAfterInsertion_1 : cJ6_fixAfterInsertion.data.toList.drop 24 = dktJ6_fixAfterInsertion_1 := dk_seg dksJ6_fixAfterInsertion_0 24 rfl rfl
theorem dksJ6_fixAfterInsertion_2 : cJ6_fixAfterInsertion.data.toList.drop 48 = dktJ6_fixAfterInsertion_2 := dk_seg dksJ6_fixAfterInsertion_1 24 rfl rfl
theorem dksJ6_fixAfterInsertion_3 : cJ6_fixAfterInsertion.data.toList.drop 72 = dktJ6_fixAfterInsertion_3 := dk_seg dksJ6_fixAfterInsertion_2 24 rfl rfl
theorem dksJ6_fixAfterInsertion_4 : cJ6_fixAfterInsertion.data.toList.drop 94 = dktJ6_fixAfterInsertion_4 := dk_seg dksJ6_fixAfterInsertion_3 22 rfl rfl
theorem dksJ6_fixAfterInsertion_5 : cJ6_fixAfterInsertion.data.toList.drop 118 = dktJ6_fixAfterInsertion_5 := dk_seg dksJ6_fixAfterInsertion_4 24 rfl rfl
theorem dksJ6_fixAfterInsertion_6 : cJ6_fixAfterInsertion.data.toList.drop 142 = dktJ6_fixAfterInsertion_6 := dk_seg dksJ6_fixAfterInsertion_5 24 rfl rfl
theorem dksJ6_fixAfterInsertion_7 : cJ6_fixAfterInsertion.data.toList.drop 166 = dktJ6_fixAfterInsertion_7 := dk_seg dksJ6_fixAfterInsertion_6 24 rfl rfl
theorem dksJ6_fixAfterInsertion_8 : cJ6_fixAfterInsertion.data.toList.drop 190 = dktJ6_fixAfterInsertion_8 := dk_seg dksJ6_fixAfterInsertion_7 24 rfl rfl
theorem dksJ6_fixAfterInsertion_9 : cJ6_fixAfterInsertion.data.toList.drop 212 = dktJ6_fixAfterInsertion_9 := dk_seg dksJ6_fixAfterInsertion_8 22 rfl rfl
theorem dksJ6_fixAfterInsertion_10 : cJ6_fixAfterInsertion.data.toList.drop 234 = dktJ6_fixAfterInsertion_10 := dk_seg dksJ6_fixAfterInsertion_9 22 rfl rfl
theorem dksJ6_fixAfterInsertion_11 : cJ6_fixAfterInsertion.data.toList.drop 258 = dktJ6_fixAfterInsertion_11 := dk_seg dksJ6_fixAfterInsertion_10 24 rfl rfl
theorem dJ6_fixAfterInsertion_0 : decode cJ6_fixAfterInsertion 0 = .ok (.aload_n 1, 1) := dk_43 (dk_at dksJ6_fixAfterInsertion_0 0 rfl rfl)
theorem dJ6_fixAfterInsertion_1 : decode cJ6_fixAfterInsertion 1 = .ok (.iconst 0, 1) := dk_3 (dk_at dksJ6_fixAfterInsertion_0 1 rfl rfl)
theorem dJ6_fixAfterInsertion_2 : decode cJ6_fixAfterInsertion 2 = .ok (.putfield 290, 3) := dk_181 1 34 (dk_at dksJ6_fixAfterInsertion_0 2 rfl rfl)
theorem dJ6_fixAfterInsertion_5 : decode cJ6_fixAfterInsertion 5 = .ok (.aload_n 1, 1) := dk_43 (dk_at dksJ6_fixAfterInsertion_0 5 rfl rfl)
theorem dJ6_fixAfterInsertion_6 : decode cJ6_fixAfterInsertion 6 = .ok (.ifnull 252, 3) := dk_198 0 252 (dk_at dksJ6_fixAfterInsertion_0 6 rfl rfl)
theorem dJ6_fixAfterInsertion_9 : decode cJ6_fixAfterInsertion 9 = .ok (.aload_n 1, 1) := dk_43 (dk_at dksJ6_fixAfterInsertion_0 9 rfl rfl)
theorem dJ6_fixAfterInsertion_10 : decode cJ6_fixAfterInsertion 10 = .ok (.aload_n 0, 1) := dk_42 (dk_at dksJ6_fixAfterInsertion_0 10 rfl rfl)
theorem dJ6_fixAfterInsertion_11 : decode cJ6_fixAfterInsertion 11 = .ok (.getfield 101, 3) := dk_180 0 101 (dk_at dksJ6_fixAfterInsertion_0 11 rfl rfl)
theorem dJ6_fixAfterInsertion_14 : decode cJ6_fixAfterInsertion 14 = .ok (.if_acmp .eq 244, 3) := dk_165 0 244 (dk_at dksJ6_fixAfterInsertion_0 14 rfl rfl)
theorem dJ6_fixAfterInsertion_17 : decode cJ6_fixAfterInsertion 17 = .ok (.aload_n 1, 1) := dk_43 (dk_at dksJ6_fixAfterInsertion_0 17 rfl rfl)
theorem dJ6_fixAfterInsertion_18 : decode cJ6_fixAfterInsertion 18 = .ok (.getfield 124, 3) := dk_180 0 124 (dk_at dksJ6_fixAfterInsertion_0 18 rfl rfl)
theorem dJ6_fixAfterInsertion_21 : decode cJ6_fixAfterInsertion 21 = .ok (.getfield 290, 3) := dk_180 1 34 (dk_at dksJ6_fixAfterInsertion_0 21 rfl rfl)
theorem dJ6_fixAfterInsertion_24 : decode cJ6_fixAfterInsertion 24 = .ok (.ifCond .ne 234, 3) := dk_154 0 234 (dk_at dksJ6_fixAfterInsertion_1 0 rfl rfl)
theorem dJ6_fixAfterInsertion_27 : decode cJ6_fixAfterInsertion 27 = .ok (.aload_n 1, 1) := dk_43 (dk_at dksJ6_fixAfterInsertion_1 3 rfl rfl)
theorem dJ6_fixAfterInsertion_28 : decode cJ6_fixAfterInsertion 28 = .ok (.invokestatic 294, 3) := dk_184 1 38 (dk_at dksJ6_fixAfterInsertion_1 4 rfl rfl)
theorem dJ6_fixAfterInsertion_31 : decode cJ6_fixAfterInsertion 31 = .ok (.aload_n 1, 1) := dk_43 (dk_at dksJ6_fixAfterInsertion_1 7 rfl rfl)
theorem dJ6_fixAfterInsertion_32 : decode cJ6_fixAfterInsertion 32 = .ok (.invokestatic 294, 3) := dk_184 1 38 (dk_at dksJ6_fixAfterInsertion_1 8 rfl rfl)
theorem dJ6_fixAfterInsertion_35 : decode cJ6_fixAfterInsertion 35 = .ok (.invokestatic 294, 3) := dk_184 1 38 (dk_at dksJ6_fixAfterInsertion_1 11 rfl rfl)
theorem dJ6_fixAfterInsertion_38 : decode cJ6_fixAfterInsertion 38 = .ok (.invokestatic 297, 3) := dk_184 1 41 (dk_at dksJ6_fixAfterInsertion_1 14 rfl rfl)
theorem dJ6_fixAfterInsertion_41 : decode cJ6_fixAfterInsertion 41 = .ok (.if_acmp .ne 110, 3) := dk_166 0 110 (dk_at dksJ6_fixAfterInsertion_1 17 rfl rfl)
theorem dJ6_fixAfterInsertion_44 : decode cJ6_fixAfterInsertion 44 = .ok (.aload_n 1, 1) := dk_43 (dk_at dksJ6_fixAfterInsertion_1 20 rfl rfl)
theorem dJ6_fixAfterInsertion_45 : decode cJ6_fixAfterInsertion 45 = .ok (.invokestatic 294, 3) := dk_184 1 38 (dk_at dksJ6_fixAfterInsertion_1 21 rfl rfl)
theorem dJ6_fixAfterInsertion_48 : decode cJ6_fixAfterInsertion 48 = .ok (.invokestatic 294, 3) := dk_184 1 38 (dk_at dksJ6_fixAfterInsertion_2 0 rfl rfl)
theorem dJ6_fixAfterInsertion_51 : decode cJ6_fixAfterInsertion 51 = .ok (.invokestatic 300, 3) := dk_184 1 44 (dk_at dksJ6_fixAfterInsertion_2 3 rfl rfl)
theorem dJ6_fixAfterInsertion_54 : decode cJ6_fixAfterInsertion 54 = .ok (.astore_n 2, 1) := dk_77 (dk_at dksJ6_fixAfterInsertion_2 6 rfl rfl)
theorem dJ6_fixAfterInsertion_55 : decode cJ6_fixAfterInsertion 55 = .ok (.aload_n 2, 1) := dk_44 (dk_at dksJ6_fixAfterInsertion_2 7 rfl rfl)
theorem dJ6_fixAfterInsertion_56 : decode cJ6_fixAfterInsertion 56 = .ok (.invokestatic 303, 3) := dk_184 1 47 (dk_at dksJ6_fixAfterInsertion_2 8 rfl rfl)
theorem dJ6_fixAfterInsertion_59 : decode cJ6_fixAfterInsertion 59 = .ok (.ifCond .ne 38, 3) := dk_154 0 38 (dk_at dksJ6_fixAfterInsertion_2 11 rfl rfl)
theorem dJ6_fixAfterInsertion_62 : decode cJ6_fixAfterInsertion 62 = .ok (.aload_n 1, 1) := dk_43 (dk_at dksJ6_fixAfterInsertion_2 14 rfl rfl)
theorem dJ6_fixAfterInsertion_63 : decode cJ6_fixAfterInsertion 63 = .ok (.invokestatic 294, 3) := dk_184 1 38 (dk_at dksJ6_fixAfterInsertion_2 15 rfl rfl)
theorem dJ6_fixAfterInsertion_66 : decode cJ6_fixAfterInsertion 66 = .ok (.iconst 1, 1) := dk_4 (dk_at dksJ6_fixAfterInsertion_2 18 rfl rfl)
theorem dJ6_fixAfterInsertion_67 : decode cJ6_fixAfterInsertion 67 = .ok (.invokestatic 307, 3) := dk_184 1 51 (dk_at dksJ6_fixAfterInsertion_2 19 rfl rfl)
theorem dJ6_fixAfterInsertion_70 : decode cJ6_fixAfterInsertion 70 = .ok (.aload_n 2, 1) := dk_44 (dk_at dksJ6_fixAfterInsertion_2 22 rfl rfl)
theorem dJ6_fixAfterInsertion_71 : decode cJ6_fixAfterInsertion 71 = .ok (.iconst 1, 1) := dk_4 (dk_at dksJ6_fixAfterInsertion_2 23 rfl rfl)
theorem dJ6_fixAfterInsertion_72 : decode cJ6_fixAfterInsertion 72 = .ok (.invokestatic 307, 3) := dk_184 1 51 (dk_at dksJ6_fixAfterInsertion_3 0 rfl rfl)
theorem dJ6_fixAfterInsertion_75 : decode cJ6_fixAfterInsertion 75 = .ok (.aload_n 1, 1) := dk_43 (dk_at dksJ6_fixAfterInsertion_3 3 rfl rfl)
theorem dJ6_fixAfterInsertion_76 : decode cJ6_fixAfterInsertion 76 = .ok (.invokestatic 294, 3) := dk_184 1 38 (dk_at dksJ6_fixAfterInsertion_3 4 rfl rfl)
theorem dJ6_fixAfterInsertion_79 : decode cJ6_fixAfterInsertion 79 = .ok (.invokestatic 294, 3) := dk_184 1 38 (dk_at dksJ6_fixAfterInsertion_3 7 rfl rfl)
theorem dJ6_fixAfterInsertion_82 : decode cJ6_fixAfterInsertion 82 = .ok (.iconst 0, 1) := dk_3 (dk_at dksJ6_fixAfterInsertion_3 10 rfl rfl)
theorem dJ6_fixAfterInsertion_83 : decode cJ6_fixAfterInsertion 83 = .ok (.invokestatic 307, 3) := dk_184 1 51 (dk_at dksJ6_fixAfterInsertion_3 11 rfl rfl)
theorem dJ6_fixAfterInsertion_86 : decode cJ6_fixAfterInsertion 86 = .ok (.aload_n 1, 1) := dk_43 (dk_at dksJ6_fixAfterInsertion_3 14 rfl rfl)
theorem dJ6_fixAfterInsertion_87 : decode cJ6_fixAfterInsertion 87 = .ok (.invokestatic 294, 3) := dk_184 1 38 (dk_at dksJ6_fixAfterInsertion_3 15 rfl rfl)
theorem dJ6_fixAfterInsertion_90 : decode cJ6_fixAfterInsertion 90 = .ok (.invokestatic 294, 3) := dk_184 1 38 (dk_at dksJ6_fixAfterInsertion_3 18 rfl rfl)
theorem dJ6_fixAfterInsertion_93 : decode cJ6_fixAfterInsertion 93 = .ok (.astore_n 1, 1) := dk_76 (dk_at dksJ6_fixAfterInsertion_3 21 rfl rfl)
theorem dJ6_fixAfterInsertion_94 : decode cJ6_fixAfterInsertion 94 = .ok (.goto 54, 3) := dk_167 0 54 (dk_at dksJ6_fixAfterInsertion_4 0 rfl rfl)
theorem dJ6_fixAfterInsertion_97 : decode cJ6_fixAfterInsertion 97 = .ok (.aload_n 1, 1) := dk_43 (dk_at dksJ6_fixAfterInsertion_4 3 rfl rfl)
theorem dJ6_fixAfterInsertion_98 : decode cJ6_fixAfterInsertion 98 = .ok (.aload_n 1, 1) := dk_43 (dk_at dksJ6_fixAfterInsertion_4 4 rfl rfl)
theorem dJ6_fixAfterInsertion_99 : decode cJ6_fixAfterInsertion 99 = .ok (.invokestatic 294, 3) := dk_184 1 38 (dk_at dksJ6_fixAfterInsertion_4 5 rfl rfl)
theorem dJ6_fixAfterInsertion_102 : decode cJ6_fixAfterInsertion 102 = .ok (.invokestatic 300, 3) := dk_184 1 44 (dk_at dksJ6_fixAfterInsertion_4 8 rfl rfl)
theorem dJ6_fixAfterInsertion_105 : decode cJ6_fixAfterInsertion 105 = .ok (.if_acmp .ne 13, 3) := dk_166 0 13 (dk_at dksJ6_fixAfterInsertion_4 11 rfl rfl)
theorem dJ6_fixAfterInsertion_108 : decode cJ6_fixAfterInsertion 108 = .ok (.aload_n 1, 1) := dk_43 (dk_at dksJ6_fixAfterInsertion_4 14 rfl rfl)
theorem dJ6_fixAfterInsertion_109 : decode cJ6_fixAfterInsertion 109 = .ok (.invokestatic 294, 3) := dk_184 1 38 (dk_at dksJ6_fixAfterInsertion_4 15 rfl rfl)
theorem dJ6_fixAfterInsertion_112 : decode cJ6_fixAfterInsertion 112 = .ok (.astore_n 1, 1) := dk_76 (dk_at dksJ6_fixAfterInsertion_4 18 rfl rfl)
theorem dJ6_fixAfterInsertion_113 : decode cJ6_fixAfterInsertion 113 = .ok (.aload_n 0, 1) := dk_42 (dk_at dksJ6_fixAfterInsertion_4 19 rfl rfl)
theorem dJ6_fixAfterInsertion_114 : decode cJ6_fixAfterInsertion 114 = .ok (.aload_n 1, 1) := dk_43 (dk_at dksJ6_fixAfterInsertion_4 20 rfl rfl)
theorem dJ6_fixAfterInsertion_115 : decode cJ6_fixAfterInsertion 115 = .ok (.invokevirtual 311, 3) := dk_182 1 55 (dk_at dksJ6_fixAfterInsertion_4 21 rfl rfl)
theorem dJ6_fixAfterInsertion_118 : decode cJ6_fixAfterInsertion 118 = .ok (.aload_n 1, 1) := dk_43 (dk_at dksJ6_fixAfterInsertion_5 0 rfl rfl)
theorem dJ6_fixAfterInsertion_119 : decode cJ6_fixAfterInsertion 119 = .ok (.invokestatic 294, 3) := dk_184 1 38 (dk_at dksJ6_fixAfterInsertion_5 1 rfl rfl)
theorem dJ6_fixAfterInsertion_122 : decode cJ6_fixAfterInsertion 122 = .ok (.iconst 1, 1) := dk_4 (dk_at dksJ6_fixAfterInsertion_5 4 rfl rfl)
theorem dJ6_fixAfterInsertion_123 : decode cJ6_fixAfterInsertion 123 = .ok (.invokestatic 307, 3) := dk_184 1 51 (dk_at dksJ6_fixAfterInsertion_5 5 rfl rfl)
theorem dJ6_fixAfterInsertion_126 : decode cJ6_fixAfterInsertion 126 = .ok (.aload_n 1, 1) := dk_43 (dk_at dksJ6_fixAfterInsertion_5 8 rfl rfl)
theorem dJ6_fixAfterInsertion_127 : decode cJ6_fixAfterInsertion 127 = .ok (.invokestatic 294, 3) := dk_184 1 38 (dk_at dksJ6_fixAfterInsertion_5 9 rfl rfl)
theorem dJ6_fixAfterInsertion_130 : decode cJ6_fixAfterInsertion 130 = .ok (.invokestatic 294, 3) := dk_184 1 38 (dk_at dksJ6_fixAfterInsertion_5 12 rfl rfl)
theorem dJ6_fixAfterInsertion_133 : decode cJ6_fixAfterInsertion 133 = .ok (.iconst 0, 1) := dk_3 (dk_at dksJ6_fixAfterInsertion_5 15 rfl rfl)
theorem dJ6_fixAfterInsertion_134 : decode cJ6_fixAfterInsertion 134 = .ok (.invokestatic 307, 3) := dk_184 1 51 (dk_at dksJ6_fixAfterInsertion_5 16 rfl rfl)
theorem dJ6_fixAfterInsertion_137 : decode cJ6_fixAfterInsertion 137 = .ok (.aload_n 0, 1) := dk_42 (dk_at dksJ6_fixAfterInsertion_5 19 rfl rfl)
theorem dJ6_fixAfterInsertion_138 : decode cJ6_fixAfterInsertion 138 = .ok (.aload_n 1, 1) := dk_43 (dk_at dksJ6_fixAfterInsertion_5 20 rfl rfl)
theorem dJ6_fixAfterInsertion_139 : decode cJ6_fixAfterInsertion 139 = .ok (.invokestatic 294, 3) := dk_184 1 38 (dk_at dksJ6_fixAfterInsertion_5 21 rfl rfl)
theorem dJ6_fixAfterInsertion_142 : decode cJ6_fixAfterInsertion 142 = .ok (.invokestatic 294, 3) := dk_184 1 38 (dk_at dksJ6_fixAfterInsertion_6 0 rfl rfl)
theorem dJ6_fixAfterInsertion_145 : decode cJ6_fixAfterInsertion 145 = .ok (.invokevirtual 314, 3) := dk_182 1 58 (dk_at dksJ6_fixAfterInsertion_6 3 rfl rfl)
theorem dJ6_fixAfterInsertion_148 : decode cJ6_fixAfterInsertion 148 = .ok (.goto (-143), 3) := dk_167 255 113 (dk_at dksJ6_fixAfterInsertion_6 6 rfl rfl)
theorem dJ6_fixAfterInsertion_151 : decode cJ6_fixAfterInsertion 151 = .ok (.aload_n 1, 1) := dk_43 (dk_at dksJ6_fixAfterInsertion_6 9 rfl rfl)
theorem dJ6_fixAfterInsertion_152 : decode cJ6_fixAfterInsertion 152 = .ok (.invokestatic 294, 3) := dk_184 1 38 (dk_at dksJ6_fixAfterInsertion_6 10 rfl rfl)
theorem dJ6_fixAfterInsertion_155 : decode cJ6_fixAfterInsertion 155 = .ok (.invokestatic 294, 3) := dk_184 1 38 (dk_at dksJ6_fixAfterInsertion_6 13 rfl rfl)
theorem dJ6_fixAfterInsertion_158 : decode cJ6_fixAfterInsertion 158 = .ok (.invokestatic 297, 3) := dk_184 1 41 (dk_at dksJ6_fixAfterInsertion_6 16 rfl rfl)
theorem dJ6_fixAfterInsertion_161 : decode cJ6_fixAfterInsertion 161 = .ok (.astore_n 2, 1) := dk_77 (dk_at dksJ6_fixAfterInsertion_6 19 rfl rfl)
theorem dJ6_fixAfterInsertion_162 : decode cJ6_fixAfterInsertion 162 = .ok (.aload_n 2, 1) := dk_44 (dk_at dksJ6_fixAfterInsertion_6 20 rfl rfl)
theorem dJ6_fixAfterInsertion_163 : decode cJ6_fixAfterInsertion 163 = .ok (.invokestatic 303, 3) := dk_184 1 47 (dk_at dksJ6_fixAfterInsertion_6 21 rfl rfl)
theorem dJ6_fixAfterInsertion_166 : decode cJ6_fixAfterInsertion 166 = .ok (.ifCond .ne 38, 3) := dk_154 0 38 (dk_at dksJ6_fixAfterInsertion_7 0 rfl rfl)
theorem dJ6_fixAfterInsertion_169 : decode cJ6_fixAfterInsertion 169 = .ok (.aload_n 1, 1) := dk_43 (dk_at dksJ6_fixAfterInsertion_7 3 rfl rfl)
theorem dJ6_fixAfterInsertion_170 : decode cJ6_fixAfterInsertion 170 = .ok (.invokestatic 294, 3) := dk_184 1 38 (dk_at dksJ6_fixAfterInsertion_7 4 rfl rfl)
theorem dJ6_fixAfterInsertion_173 : decode cJ6_fixAfterInsertion 173 = .ok (.iconst 1, 1) := dk_4 (dk_at dksJ6_fixAfterInsertion_7 7 rfl rfl)
theorem dJ6_fixAfterInsertion_174 : decode cJ6_fixAfterInsertion 174 = .ok (.invokestatic 307, 3) := dk_184 1 51 (dk_at dksJ6_fixAfterInsertion_7 8 rfl rfl)
theorem dJ6_fixAfterInsertion_177 : decode cJ6_fixAfterInsertion 177 = .ok (.aload_n 2, 1) := dk_44 (dk_at dksJ6_fixAfterInsertion_7 11 rfl rfl)
theorem dJ6_fixAfterInsertion_178 : decode cJ6_fixAfterInsertion 178 = .ok (.iconst 1, 1) := dk_4 (dk_at dksJ6_fixAfterInsertion_7 12 rfl rfl)
theorem dJ6_fixAfterInsertion_179 : decode cJ6_fixAfterInsertion 179 = .ok (.invokestatic 307, 3) := dk_184 1 51 (dk_at dksJ6_fixAfterInsertion_7 13 rfl rfl)
theorem dJ6_fixAfterInsertion_182 : decode cJ6_fixAfterInsertion 182 = .ok (.aload_n 1, 1) := dk_43 (dk_at dksJ6_fixAfterInsertion_7 16 rfl rfl)
theorem dJ6_fixAfterInsertion_183 : decode cJ6_fixAfterInsertion 183 = .ok (.invokestatic 294, 3) := dk_184 1 38 (dk_at dksJ6_fixAfterInsertion_7 17 rfl rfl)
theorem dJ6_fixAfterInsertion_186 : decode cJ6_fixAfterInsertion 186 = .ok (.invokestatic 294, 3) := dk_184 1 38 (dk_at dksJ6_fixAfterInsertion_7 20 rfl rfl)
theorem dJ6_fixAfterInsertion_189 : decode cJ6_fixAfterInsertion 189 = .ok (.iconst 0, 1) := dk_3 (dk_at dksJ6_fixAfterInsertion_7 23 rfl rfl)
theorem dJ6_fixAfterInsertion_190 : decode cJ6_fixAfterInsertion 190 = .ok (.invokestatic 307, 3) := dk_184 1 51 (dk_at dksJ6_fixAfterInsertion_8 0 rfl rfl)
theorem dJ6_fixAfterInsertion_193 : decode cJ6_fixAfterInsertion 193 = .ok (.aload_n 1, 1) := dk_43 (dk_at dksJ6_fixAfterInsertion_8 3 rfl rfl)
theorem dJ6_fixAfterInsertion_194 : decode cJ6_fixAfterInsertion 194 = .ok (.invokestatic 294, 3) := dk_184 1 38 (dk_at dksJ6_fixAfterInsertion_8 4 rfl rfl)
theorem dJ6_fixAfterInsertion_197 : decode cJ6_fixAfterInsertion 197 = .ok (.invokestatic 294, 3) := dk_184 1 38 (dk_at dksJ6_fixAfterInsertion_8 7 rfl rfl)
theorem dJ6_fixAfterInsertion_200 : decode cJ6_fixAfterInsertion 200 = .ok (.astore_n 1, 1) := dk_76 (dk_at dksJ6_fixAfterInsertion_8 10 rfl rfl)
theorem dJ6_fixAfterInsertion_201 : decode cJ6_fixAfterInsertion 201 = .ok (.goto 54, 3) := dk_167 0 54 (dk_at dksJ6_fixAfterInsertion_8 11 rfl rfl)
theorem dJ6_fixAfterInsertion_204 : decode cJ6_fixAfterInsertion 204 = .ok (.aload_n 1, 1) := dk_43 (dk_at dksJ6_fixAfterInsertion_8 14 rfl rfl)
theorem dJ6_fixAfterInsertion_205 : decode cJ6_fixAfterInsertion 205 = .ok (.aload_n 1, 1) := dk_43 (dk_at dksJ6_fixAfterInsertion_8 15 rfl rfl)
theorem dJ6_fixAfterInsertion_206 : decode cJ6_fixAfterInsertion 206 = .ok (.invokestatic 294, 3) := dk_184 1 38 (dk_at dksJ6_fixAfterInsertion_8 16 rfl rfl)
theorem dJ6_fixAfterInsertion_209 : decode cJ6_fixAfterInsertion 209 = .ok (.invokestatic 297, 3) := dk_184 1 41 (dk_at dksJ6_fixAfterInsertion_8 19 rfl rfl)
theorem dJ6_fixAfterInsertion_212 : decode cJ6_fixAfterInsertion 212 = .ok (.if_acmp .ne 13, 3) := dk_166 0 13 (dk_at dksJ6_fixAfterInsertion_9 0 rfl rfl)
theorem dJ6_fixAfterInsertion_215 : decode cJ6_fixAfterInsertion 215 = .ok (.aload_n 1, 1) := dk_43 (dk_at dksJ6_fixAfterInsertion_9 3 rfl rfl)
theorem dJ6_fixAfterInsertion_216 : decode cJ6_fixAfterInsertion 216 = .ok (.invokestatic 294, 3) := dk_184 1 38 (dk_at dksJ6_fixAfterInsertion_9 4 rfl rfl)
theorem dJ6_fixAfterInsertion_219 : decode cJ6_fixAfterInsertion 219 = .ok (.astore_n 1, 1) := dk_76 (dk_at dksJ6_fixAfterInsertion_9 7 rfl rfl)
theorem dJ6_fixAfterInsertion_220 : decode cJ6_fixAfterInsertion 220 = .ok (.aload_n 0, 1) := dk_42 (dk_at dksJ6_fixAfterInsertion_9 8 rfl rfl)
theorem dJ6_fixAfterInsertion_221 : decode cJ6_fixAfterInsertion 221 = .ok (.aload_n 1, 1) := dk_43 (dk_at dksJ6_fixAfterInsertion_9 9 rfl rfl)
theorem dJ6_fixAfterInsertion_222 : decode cJ6_fixAfterInsertion 222 = .ok (.invokevirtual 314, 3) := dk_182 1 58 (dk_at dksJ6_fixAfterInsertion_9 10 rfl rfl)
theorem dJ6_fixAfterInsertion_225 : decode cJ6_fixAfterInsertion 225 = .ok (.aload_n 1, 1) := dk_43 (dk_at dksJ6_fixAfterInsertion_9 13 rfl rfl)
theorem dJ6_fixAfterInsertion_226 : decode cJ6_fixAfterInsertion 226 = .ok (.invokestatic 294, 3) := dk_184 1 38 (dk_at dksJ6_fixAfterInsertion_9 14 rfl rfl)
theorem dJ6_fixAfterInsertion_229 : decode cJ6_fixAfterInsertion 229 = .ok (.iconst 1, 1) := dk_4 (dk_at dksJ6_fixAfterInsertion_9 17 rfl rfl)
theorem dJ6_fixAfterInsertion_230 : decode cJ6_fixAfterInsertion 230 = .ok (.invokestatic 307, 3) := dk_184 1 51 (dk_at dksJ6_fixAfterInsertion_9 18 rfl rfl)
theorem dJ6_fixAfterInsertion_233 : decode cJ6_fixAfterInsertion 233 = .ok (.aload_n 1, 1) := dk_43 (dk_at dksJ6_fixAfterInsertion_9 21 rfl rfl)
theorem dJ6_fixAfterInsertion_234 : decode cJ6_fixAfterInsertion 234 = .ok (.invokestatic 294, 3) := dk_184 1 38 (dk_at dksJ6_fixAfterInsertion_10 0 rfl rfl)
theorem dJ6_fixAfterInsertion_237 : decode cJ6_fixAfterInsertion 237 = .ok (.invokestatic 294, 3) := dk_184 1 38 (dk_at dksJ6_fixAfterInsertion_10 3 rfl rfl)
theorem dJ6_fixAfterInsertion_240 : decode cJ6_fixAfterInsertion 240 = .ok (.iconst 0, 1) := dk_3 (dk_at dksJ6_fixAfterInsertion_10 6 rfl rfl)
theorem dJ6_fixAfterInsertion_241 : decode cJ6_fixAfterInsertion 241 = .ok (.invokestatic 307, 3) := dk_184 1 51 (dk_at dksJ6_fixAfterInsertion_10 7 rfl rfl)
theorem dJ6_fixAfterInsertion_244 : decode cJ6_fixAfterInsertion 244 = .ok (.aload_n 0, 1) := dk_42 (dk_at dksJ6_fixAfterInsertion_10 10 rfl rfl)
theorem dJ6_fixAfterInsertion_245 : decode cJ6_fixAfterInsertion 245 = .ok (.aload_n 1, 1) := dk_43 (dk_at dksJ6_fixAfterInsertion_10 11 rfl rfl)
theorem dJ6_fixAfterInsertion_246 : decode cJ6_fixAfterInsertion 246 = .ok (.invokestatic 294, 3) := dk_184 1 38 (dk_at dksJ6_fixAfterInsertion_10 12 rfl rfl)
theorem dJ6_fixAfterInsertion_249 : decode cJ6_fixAfterInsertion 249 = .ok (.invokestatic 294, 3) := dk_184 1 38 (dk_at dksJ6_fixAfterInsertion_10 15 rfl rfl)
theorem dJ6_fixAfterInsertion_252 : decode cJ6_fixAfterInsertion 252 = .ok (.invokevirtual 311, 3) := dk_182 1 55 (dk_at dksJ6_fixAfterInsertion_10 18 rfl rfl)
theorem dJ6_fixAfterInsertion_255 : decode cJ6_fixAfterInsertion 255 = .ok (.goto (-250), 3) := dk_167 255 6 (dk_at dksJ6_fixAfterInsertion_10 21 rfl rfl)
theorem dJ6_fixAfterInsertion_258 : decode cJ6_fixAfterInsertion 258 = .ok (.aload_n 0, 1) := dk_42 (dk_at dksJ6_fixAfterInsertion_11 0 rfl rfl)
theorem dJ6_fixAfterInsertion_259 : decode cJ6_fixAfterInsertion 259 = .ok (.getfield 101, 3) := dk_180 0 101 (dk_at dksJ6_fixAfterInsertion_11 1 rfl rfl)
theorem dJ6_fixAfterInsertion_262 : decode cJ6_fixAfterInsertion 262 = .ok (.iconst 1, 1) := dk_4 (dk_at dksJ6_fixAfterInsertion_11 4 rfl rfl)
theorem dJ6_fixAfterInsertion_263 : decode cJ6_fixAfterInsertion 263 = .ok (.putfield 290, 3) := dk_181 1 34 (dk_at dksJ6_fixAfterInsertion_11 5 rfl rfl)
theorem dJ6_fixAfterInsertion_266 : decode cJ6_fixAfterInsertion 266 = .ok (.return_, 1) := dk_177 (dk_at dksJ6_fixAfterInsertion_11 8 rfl rfl)
abbrev cJ6_parentOf : ByteArray := prog_63_method_77_code
def yJ6_parentOf : MethodName := ⟨RJ6, "parentOf", "(Ljava/util/TreeMap$Entry;)Ljava/util/TreeMap$Entry;"⟩
def dkwJ6_parentOf_0 : List UInt8 := [42, 199, 0, 7, 1, 167, 0, 7, 42, 180, 0, 124, 176]
abbrev dktJ6_parentOf_0 : List UInt8 := dkwJ6_parentOf_0 ++ []
theorem dksJ6_parentOf_0 : cJ6_parentOf.data.toList.drop 0 = dktJ6_parentOf_0 := by decide +kernel
theorem dJ6_parentOf_0 : decode cJ6_parentOf 0 = .ok (.aload_n 0, 1) := dk_42 (dk_at dksJ6_parentOf_0 0 rfl rfl)
theorem dJ6_parentOf_1 : decode cJ6_parentOf 1 = .ok (.ifnonnull 7, 3) := dk_199 0 7 (dk_at dksJ6_parentOf_0 1 rfl rfl)
theorem dJ6_parentOf_4 : decode cJ6_parentOf 4 = .ok (.aconst_null, 1) := dk_1 (dk_at dksJ6_parentOf_0 4 rfl rfl)
theorem dJ6_parentOf_5 : decode cJ6_parentOf 5 = .ok (.goto 7, 3) := dk_167 0 7 (dk_at dksJ6_parentOf_0 5 rfl rfl)
theorem dJ6_parentOf_8 : decode cJ6_parentOf 8 = .ok (.aload_n 0, 1) := dk_42 (dk_at dksJ6_parentOf_0 8 rfl rfl)
theorem dJ6_parentOf_9 : decode cJ6_parentOf 9 = .ok (.getfield 124, 3) := dk_180 0 124 (dk_at dksJ6_parentOf_0 9 rfl rfl)
theorem dJ6_parentOf_12 : decode cJ6_parentOf 12 = .ok (.areturn, 1) := dk_176 (dk_at dksJ6_parentOf_0 12 rfl rfl)
abbrev cJ6_leftOf : ByteArray := prog_63_method_79_code
def yJ6_leftOf : MethodName := ⟨RJ6, "leftOf", "(Ljava/util/TreeMap$Entry;)Ljava/util/TreeMap$Entry;"⟩
def dkwJ6_leftOf_0 : List UInt8 := [42, 199, 0, 7, 1, 167, 0, 7, 42, 180, 0, 111, 176]
abbrev dktJ6_leftOf_0 : List UInt8 := dkwJ6_leftOf_0 ++ []
theorem dksJ6_leftOf_0 : cJ6_leftOf.data.toList.drop 0 = dktJ6_leftOf_0 := by decide +kernel
theorem dJ6_leftOf_0 : decode cJ6_leftOf 0 = .ok (.aload_n 0, 1) := dk_42 (dk_at dksJ6_leftOf_0 0 rfl rfl)
theorem dJ6_leftOf_1 : decode cJ6_leftOf 1 = .ok (.ifnonnull 7, 3) := dk_199 0 7 (dk_at dksJ6_leftOf_0 1 rfl rfl)
theorem dJ6_leftOf_4 : decode cJ6_leftOf 4 = .ok (.aconst_null, 1) := dk_1 (dk_at dksJ6_leftOf_0 4 rfl rfl)
theorem dJ6_leftOf_5 : decode cJ6_leftOf 5 = .ok (.goto 7, 3) := dk_167 0 7 (dk_at dksJ6_leftOf_0 5 rfl rfl)
theorem dJ6_leftOf_8 : decode cJ6_leftOf 8 = .ok (.aload_n 0, 1) := dk_42 (dk_at dksJ6_leftOf_0 8 rfl rfl)
theorem dJ6_leftOf_9 : decode cJ6_leftOf 9 = .ok (.getfield 111, 3) := dk_180 0 111 (dk_at dksJ6_leftOf_0 9 rfl rfl)
theorem dJ6_leftOf_12 : decode cJ6_leftOf 12 = .ok (.areturn, 1) := dk_176 (dk_at dksJ6_leftOf_0 12 rfl rfl)
abbrev cJ6_rightOf : ByteArray := prog_63_method_80_code
def yJ6_rightOf : MethodName := ⟨RJ6, "rightOf", "(Ljava/util/TreeMap$Entry;)Ljava/util/TreeMap$Entry;"⟩
def dkwJ6_rightOf_0 : List UInt8 := [42, 199, 0, 7, 1, 167, 0, 7, 42, 180, 0, 114, 176]
abbrev dktJ6_rightOf_0 : List UInt8 := dkwJ6_rightOf_0 ++ []
theorem dksJ6_rightOf_0 : cJ6_rightOf.data.toList.drop 0 = dktJ6_rightOf_0 := by decide +kernel
theorem dJ6_rightOf_0 : decode cJ6_rightOf 0 = .ok (.aload_n 0, 1) := dk_42 (dk_at dksJ6_rightOf_0 0 rfl rfl)
theorem dJ6_rightOf_1 : decode cJ6_rightOf 1 = .ok (.ifnonnull 7, 3) := dk_199 0 7 (dk_at dksJ6_rightOf_0 1 rfl rfl)
theorem dJ6_rightOf_4 : decode cJ6_rightOf 4 = .ok (.aconst_null, 1) := dk_1 (dk_at dksJ6_rightOf_0 4 rfl rfl)
theorem dJ6_rightOf_5 : decode cJ6_rightOf 5 = .ok (.goto 7, 3) := dk_167 0 7 (dk_at dksJ6_rightOf_0 5 rfl rfl)
theorem dJ6_rightOf_8 : decode cJ6_rightOf 8 = .ok (.aload_n 0, 1) := dk_42 (dk_at dksJ6_rightOf_0 8 rfl rfl)
theorem dJ6_rightOf_9 : decode cJ6_rightOf 9 = .ok (.getfield 114, 3) := dk_180 0 114 (dk_at dksJ6_rightOf_0 9 rfl rfl)
theorem dJ6_rightOf_12 : decode cJ6_rightOf 12 = .ok (.areturn, 1) := dk_176 (dk_at dksJ6_rightOf_0 12 rfl rfl)
abbrev cJ6_colorOf : ByteArray := prog_63_method_76_code
def yJ6_colorOf : MethodName := ⟨RJ6, "colorOf", "(Ljava/util/TreeMap$Entry;)Z"⟩
def dkwJ6_colorOf_0 : List UInt8 := [42, 199, 0, 7, 4, 167, 0, 7, 42, 180, 1, 34, 172]
abbrev dktJ6_colorOf_0 : List UInt8 := dkwJ6_colorOf_0 ++ []
theorem dksJ6_colorOf_0 : cJ6_colorOf.data.toList.drop 0 = dktJ6_colorOf_0 := by decide +kernel
theorem dJ6_colorOf_0 : decode cJ6_colorOf 0 = .ok (.aload_n 0, 1) := dk_42 (dk_at dksJ6_colorOf_0 0 rfl rfl)
theorem dJ6_colorOf_1 : decode cJ6_colorOf 1 = .ok (.ifnonnull 7, 3) := dk_199 0 7 (dk_at dksJ6_colorOf_0 1 rfl rfl)
theorem dJ6_colorOf_4 : decode cJ6_colorOf 4 = .ok (.iconst 1, 1) := dk_4 (dk_at dksJ6_colorOf_0 4 rfl rfl)
theorem dJ6_colorOf_5 : decode cJ6_colorOf 5 = .ok (.goto 7, 3) := dk_167 0 7 (dk_at dksJ6_colorOf_0 5 rfl rfl)
theorem dJ6_colorOf_8 : decode cJ6_colorOf 8 = .ok (.aload_n 0, 1) := dk_42 (dk_at dksJ6_colorOf_0 8 rfl rfl)
theorem dJ6_colorOf_9 : decode cJ6_colorOf 9 = .ok (.getfield 290, 3) := dk_180 1 34 (dk_at dksJ6_colorOf_0 9 rfl rfl)
theorem dJ6_colorOf_12 : decode cJ6_colorOf 12 = .ok (.ireturn, 1) := dk_172 (dk_at dksJ6_colorOf_0 12 rfl rfl)
abbrev cJ6_setColor : ByteArray := prog_63_method_78_code
def yJ6_setColor : MethodName := ⟨RJ6, "setColor", "(Ljava/util/TreeMap$Entry;Z)V"⟩
def dkwJ6_setColor_0 : List UInt8 := [42, 198, 0, 8, 42, 27, 181, 1, 34, 177]
abbrev dktJ6_setColor_0 : List UInt8 := dkwJ6_setColor_0 ++ []
theorem dksJ6_setColor_0 : cJ6_setColor.data.toList.drop 0 = dktJ6_setColor_0 := by decide +kernel
theorem dJ6_setColor_0 : decode cJ6_setColor 0 = .ok (.aload_n 0, 1) := dk_42 (dk_at dksJ6_setColor_0 0 rfl rfl)
theorem dJ6_setColor_1 : decode cJ6_setColor 1 = .ok (.ifnull 8, 3) := dk_198 0 8 (dk_at dksJ6_setColor_0 1 rfl rfl)
theorem dJ6_setColor_4 : decode cJ6_setColor 4 = .ok (.aload_n 0, 1) := dk_42 (dk_at dksJ6_setColor_0 4 rfl rfl)
theorem dJ6_setColor_5 : decode cJ6_setColor 5 = .ok (.iload_n 1, 1) := dk_27 (dk_at dksJ6_setColor_0 5 rfl rfl)
theorem dJ6_setColor_6 : decode cJ6_setColor 6 = .ok (.putfield 290, 3) := dk_181 1 34 (dk_at dksJ6_setColor_0 6 rfl rfl)
theorem dJ6_setColor_9 : decode cJ6_setColor 9 = .ok (.return_, 1) := dk_177 (dk_at dksJ6_setColor_0 9 rfl rfl)
abbrev cJ6_rotateLeft : ByteArray := prog_63_method_81_code
def yJ6_rotateLeft : MethodName := ⟨RJ6, "rotateLeft", "(Ljava/util/TreeMap$Entry;)V"⟩
def dkwJ6_rotateLeft_4 : List UInt8 := [177]
abbrev dktJ6_rotateLeft_4 : List UInt8 := dkwJ6_rotateLeft_4 ++ []
def dkwJ6_rotateLeft_3 : List UInt8 := [181, 0, 111, 167, 0, 11, 43, 180, 0, 124, 44, 181, 0, 114, 44, 43, 181, 0, 111, 43, 44, 181, 0, 124]
abbrev dktJ6_rotateLeft_3 : List UInt8 := dkwJ6_rotateLeft_3 ++ dktJ6_rotateLeft_4
def dkwJ6_rotateLeft_2 : List UInt8 := [44, 181, 0, 101, 167, 0, 33, 43, 180, 0, 124, 180, 0, 111, 43, 166, 0, 14, 43, 180, 0, 124, 44]
abbrev dktJ6_rotateLeft_2 : List UInt8 := dkwJ6_rotateLeft_2 ++ dktJ6_rotateLeft_3
def dkwJ6_rotateLeft_1 : List UInt8 := [44, 180, 0, 111, 43, 181, 0, 124, 44, 43, 180, 0, 124, 181, 0, 124, 43, 180, 0, 124, 199, 0, 11, 42]
abbrev dktJ6_rotateLeft_1 : List UInt8 := dkwJ6_rotateLeft_1 ++ dktJ6_rotateLeft_2
def dkwJ6_rotateLeft_0 : List UInt8 := [43, 198, 0, 94, 43, 180, 0, 114, 77, 43, 44, 180, 0, 111, 181, 0, 114, 44, 180, 0, 111, 198, 0, 11]
abbrev dktJ6_rotateLeft_0 : List UInt8 := dkwJ6_rotateLeft_0 ++ dktJ6_rotateLeft_1
theorem dksJ6_rotateLeft_0 : cJ6_rotateLeft.data.toList.drop 0 = dktJ6_rotateLeft_0 := by decide +kernel
theorem dksJ6_rotateLeft_1 : cJ6_rotateLeft.data.toList.drop 24 = dktJ6_rotateLeft_1 := dk_seg dksJ6_rotateLeft_0 24 rfl rfl
theorem dksJ6_rotateLeft_2 : cJ6_rotateLeft.data.toList.drop 48 = dktJ6_rotateLeft_2 := dk_seg dksJ6_rotateLeft_1 24 rfl rfl
theorem dksJ6_rotateLeft_3 : cJ6_rotateLeft.data.toList.drop 71 = dktJ6_rotateLeft_3 := dk_seg dksJ6_rotateLeft_2 23 rfl rfl
theorem dksJ6_rotateLeft_4 : cJ6_rotateLeft.data.toList.drop 95 = dktJ6_rotateLeft_4 := dk_seg dksJ6_rotateLeft_3 24 rfl rfl
theorem dJ6_rotateLeft_0 : decode cJ6_rotateLeft 0 = .ok (.aload_n 1, 1) := dk_43 (dk_at dksJ6_rotateLeft_0 0 rfl rfl)
theorem dJ6_rotateLeft_1 : decode cJ6_rotateLeft 1 = .ok (.ifnull 94, 3) := dk_198 0 94 (dk_at dksJ6_rotateLeft_0 1 rfl rfl)
theorem dJ6_rotateLeft_4 : decode cJ6_rotateLeft 4 = .ok (.aload_n 1, 1) := dk_43 (dk_at dksJ6_rotateLeft_0 4 rfl rfl)
theorem dJ6_rotateLeft_5 : decode cJ6_rotateLeft 5 = .ok (.getfield 114, 3) := dk_180 0 114 (dk_at dksJ6_rotateLeft_0 5 rfl rfl)
theorem dJ6_rotateLeft_8 : decode cJ6_rotateLeft 8 = .ok (.astore_n 2, 1) := dk_77 (dk_at dksJ6_rotateLeft_0 8 rfl rfl)
theorem dJ6_rotateLeft_9 : decode cJ6_rotateLeft 9 = .ok (.aload_n 1, 1) := dk_43 (dk_at dksJ6_rotateLeft_0 9 rfl rfl)
theorem dJ6_rotateLeft_10 : decode cJ6_rotateLeft 10 = .ok (.aload_n 2, 1) := dk_44 (dk_at dksJ6_rotateLeft_0 10 rfl rfl)
theorem dJ6_rotateLeft_11 : decode cJ6_rotateLeft 11 = .ok (.getfield 111, 3) := dk_180 0 111 (dk_at dksJ6_rotateLeft_0 11 rfl rfl)
theorem dJ6_rotateLeft_14 : decode cJ6_rotateLeft 14 = .ok (.putfield 114, 3) := dk_181 0 114 (dk_at dksJ6_rotateLeft_0 14 rfl rfl)
theorem dJ6_rotateLeft_17 : decode cJ6_rotateLeft 17 = .ok (.aload_n 2, 1) := dk_44 (dk_at dksJ6_rotateLeft_0 17 rfl rfl)
theorem dJ6_rotateLeft_18 : decode cJ6_rotateLeft 18 = .ok (.getfield 111, 3) := dk_180 0 111 (dk_at dksJ6_rotateLeft_0 18 rfl rfl)
theorem dJ6_rotateLeft_21 : decode cJ6_rotateLeft 21 = .ok (.ifnull 11, 3) := dk_198 0 11 (dk_at dksJ6_rotateLeft_0 21 rfl rfl)
theorem dJ6_rotateLeft_24 : decode cJ6_rotateLeft 24 = .ok (.aload_n 2, 1) := dk_44 (dk_at dksJ6_rotateLeft_1 0 rfl rfl)
theorem dJ6_rotateLeft_25 : decode cJ6_rotateLeft 25 = .ok (.getfield 111, 3) := dk_180 0 111 (dk_at dksJ6_rotateLeft_1 1 rfl rfl)
theorem dJ6_rotateLeft_28 : decode cJ6_rotateLeft 28 = .ok (.aload_n 1, 1) := dk_43 (dk_at dksJ6_rotateLeft_1 4 rfl rfl)
theorem dJ6_rotateLeft_29 : decode cJ6_rotateLeft 29 = .ok (.putfield 124, 3) := dk_181 0 124 (dk_at dksJ6_rotateLeft_1 5 rfl rfl)
theorem dJ6_rotateLeft_32 : decode cJ6_rotateLeft 32 = .ok (.aload_n 2, 1) := dk_44 (dk_at dksJ6_rotateLeft_1 8 rfl rfl)
theorem dJ6_rotateLeft_33 : decode cJ6_rotateLeft 33 = .ok (.aload_n 1, 1) := dk_43 (dk_at dksJ6_rotateLeft_1 9 rfl rfl)
theorem dJ6_rotateLeft_34 : decode cJ6_rotateLeft 34 = .ok (.getfield 124, 3) := dk_180 0 124 (dk_at dksJ6_rotateLeft_1 10 rfl rfl)
theorem dJ6_rotateLeft_37 : decode cJ6_rotateLeft 37 = .ok (.putfield 124, 3) := dk_181 0 124 (dk_at dksJ6_rotateLeft_1 13 rfl rfl)
theorem dJ6_rotateLeft_40 : decode cJ6_rotateLeft 40 = .ok (.aload_n 1, 1) := dk_43 (dk_at dksJ6_rotateLeft_1 16 rfl rfl)
theorem dJ6_rotateLeft_41 : decode cJ6_rotateLeft 41 = .ok (.getfield 124, 3) := dk_180 0 124 (dk_at dksJ6_rotateLeft_1 17 rfl rfl)
theorem dJ6_rotateLeft_44 : decode cJ6_rotateLeft 44 = .ok (.ifnonnull 11, 3) := dk_199 0 11 (dk_at dksJ6_rotateLeft_1 20 rfl rfl)
theorem dJ6_rotateLeft_47 : decode cJ6_rotateLeft 47 = .ok (.aload_n 0, 1) := dk_42 (dk_at dksJ6_rotateLeft_1 23 rfl rfl)
theorem dJ6_rotateLeft_48 : decode cJ6_rotateLeft 48 = .ok (.aload_n 2, 1) := dk_44 (dk_at dksJ6_rotateLeft_2 0 rfl rfl)
theorem dJ6_rotateLeft_49 : decode cJ6_rotateLeft 49 = .ok (.putfield 101, 3) := dk_181 0 101 (dk_at dksJ6_rotateLeft_2 1 rfl rfl)
theorem dJ6_rotateLeft_52 : decode cJ6_rotateLeft 52 = .ok (.goto 33, 3) := dk_167 0 33 (dk_at dksJ6_rotateLeft_2 4 rfl rfl)
theorem dJ6_rotateLeft_55 : decode cJ6_rotateLeft 55 = .ok (.aload_n 1, 1) := dk_43 (dk_at dksJ6_rotateLeft_2 7 rfl rfl)
theorem dJ6_rotateLeft_56 : decode cJ6_rotateLeft 56 = .ok (.getfield 124, 3) := dk_180 0 124 (dk_at dksJ6_rotateLeft_2 8 rfl rfl)
theorem dJ6_rotateLeft_59 : decode cJ6_rotateLeft 59 = .ok (.getfield 111, 3) := dk_180 0 111 (dk_at dksJ6_rotateLeft_2 11 rfl rfl)
theorem dJ6_rotateLeft_62 : decode cJ6_rotateLeft 62 = .ok (.aload_n 1, 1) := dk_43 (dk_at dksJ6_rotateLeft_2 14 rfl rfl)
theorem dJ6_rotateLeft_63 : decode cJ6_rotateLeft 63 = .ok (.if_acmp .ne 14, 3) := dk_166 0 14 (dk_at dksJ6_rotateLeft_2 15 rfl rfl)
theorem dJ6_rotateLeft_66 : decode cJ6_rotateLeft 66 = .ok (.aload_n 1, 1) := dk_43 (dk_at dksJ6_rotateLeft_2 18 rfl rfl)
theorem dJ6_rotateLeft_67 : decode cJ6_rotateLeft 67 = .ok (.getfield 124, 3) := dk_180 0 124 (dk_at dksJ6_rotateLeft_2 19 rfl rfl)
theorem dJ6_rotateLeft_70 : decode cJ6_rotateLeft 70 = .ok (.aload_n 2, 1) := dk_44 (dk_at dksJ6_rotateLeft_2 22 rfl rfl)
theorem dJ6_rotateLeft_71 : decode cJ6_rotateLeft 71 = .ok (.putfield 111, 3) := dk_181 0 111 (dk_at dksJ6_rotateLeft_3 0 rfl rfl)
theorem dJ6_rotateLeft_74 : decode cJ6_rotateLeft 74 = .ok (.goto 11, 3) := dk_167 0 11 (dk_at dksJ6_rotateLeft_3 3 rfl rfl)
theorem dJ6_rotateLeft_77 : decode cJ6_rotateLeft 77 = .ok (.aload_n 1, 1) := dk_43 (dk_at dksJ6_rotateLeft_3 6 rfl rfl)
theorem dJ6_rotateLeft_78 : decode cJ6_rotateLeft 78 = .ok (.getfield 124, 3) := dk_180 0 124 (dk_at dksJ6_rotateLeft_3 7 rfl rfl)
theorem dJ6_rotateLeft_81 : decode cJ6_rotateLeft 81 = .ok (.aload_n 2, 1) := dk_44 (dk_at dksJ6_rotateLeft_3 10 rfl rfl)
theorem dJ6_rotateLeft_82 : decode cJ6_rotateLeft 82 = .ok (.putfield 114, 3) := dk_181 0 114 (dk_at dksJ6_rotateLeft_3 11 rfl rfl)
theorem dJ6_rotateLeft_85 : decode cJ6_rotateLeft 85 = .ok (.aload_n 2, 1) := dk_44 (dk_at dksJ6_rotateLeft_3 14 rfl rfl)
theorem dJ6_rotateLeft_86 : decode cJ6_rotateLeft 86 = .ok (.aload_n 1, 1) := dk_43 (dk_at dksJ6_rotateLeft_3 15 rfl rfl)
theorem dJ6_rotateLeft_87 : decode cJ6_rotateLeft 87 = .ok (.putfield 111, 3) := dk_181 0 111 (dk_at dksJ6_rotateLeft_3 16 rfl rfl)
theorem dJ6_rotateLeft_90 : decode cJ6_rotateLeft 90 = .ok (.aload_n 1, 1) := dk_43 (dk_at dksJ6_rotateLeft_3 19 rfl rfl)
theorem dJ6_rotateLeft_91 : decode cJ6_rotateLeft 91 = .ok (.aload_n 2, 1) := dk_44 (dk_at dksJ6_rotateLeft_3 20 rfl rfl)
theorem dJ6_rotateLeft_92 : decode cJ6_rotateLeft 92 = .ok (.putfield 124, 3) := dk_181 0 124 (dk_at dksJ6_rotateLeft_3 21 rfl rfl)
theorem dJ6_rotateLeft_95 : decode cJ6_rotateLeft 95 = .ok (.return_, 1) := dk_177 (dk_at dksJ6_rotateLeft_4 0 rfl rfl)
abbrev cJ6_rotateRight : ByteArray := prog_63_method_82_code
def yJ6_rotateRight : MethodName := ⟨RJ6, "rotateRight", "(Ljava/util/TreeMap$Entry;)V"⟩
def dkwJ6_rotateRight_4 : List UInt8 := [177]
abbrev dktJ6_rotateRight_4 : List UInt8 := dkwJ6_rotateRight_4 ++ []
def dkwJ6_rotateRight_3 : List UInt8 := [181, 0, 114, 167, 0, 11, 43, 180, 0, 124, 44, 181, 0, 111, 44, 43, 181, 0, 114, 43, 44, 181, 0, 124]
abbrev dktJ6_rotateRight_3 : List UInt8 := dkwJ6_rotateRight_3 ++ dktJ6_rotateRight_4
def dkwJ6_rotateRight_2 : List UInt8 := [44, 181, 0, 101, 167, 0, 33, 43, 180, 0, 124, 180, 0, 114, 43, 166, 0, 14, 43, 180, 0, 124, 44]
abbrev dktJ6_rotateRight_2 : List UInt8 := dkwJ6_rotateRight_2 ++ dktJ6_rotateRight_3
def dkwJ6_rotateRight_1 : List UInt8 := [44, 180, 0, 114, 43, 181, 0, 124, 44, 43, 180, 0, 124, 181, 0, 124, 43, 180, 0, 124, 199, 0, 11, 42]
abbrev dktJ6_rotateRight_1 : List UInt8 := dkwJ6_rotateRight_1 ++ dktJ6_rotateRight_2
def dkwJ6_rotateRight_0 : List UInt8 := [43, 198, 0, 94, 43, 180, 0, 111, 77, 43, 44, 180, 0, 114, 181, 0, 111, 44, 180, 0, 114, 198, 0, 11]
abbrev dktJ6_rotateRight_0 : List UInt8 := dkwJ6_rotateRight_0 ++ dktJ6_rotateRight_1
theorem dksJ6_rotateRight_0 : cJ6_rotateRight.data.toList.drop 0 = dktJ6_rotateRight_0 := by decide +kernel
theorem dksJ6_rotateRight_1 : cJ6_rotateRight.data.toList.drop 24 = dktJ6_rotateRight_1 := dk_seg dksJ6_rotateRight_0 24 rfl rfl
theorem dksJ6_rotateRight_2 : cJ6_rotateRight.data.toList.drop 48 = dktJ6_rotateRight_2 := dk_seg dksJ6_rotateRight_1 24 rfl rfl
theorem dksJ6_rotateRight_3 : cJ6_rotateRight.data.toList.drop 71 = dktJ6_rotateRight_3 := dk_seg dksJ6_rotateRight_2 23 rfl rfl
theorem dksJ6_rotateRight_4 : cJ6_rotateRight.data.toList.drop 95 = dktJ6_rotateRight_4 := dk_seg dksJ6_rotateRight_3 24 rfl rfl
theorem dJ6_rotateRight_0 : decode cJ6_rotateRight 0 = .ok (.aload_n 1, 1) := dk_43 (dk_at dksJ6_rotateRight_0 0 rfl rfl)
theorem dJ6_rotateRight_1 : decode cJ6_rotateRight 1 = .ok (.ifnull 94, 3) := dk_198 0 94 (dk_at dksJ6_rotateRight_0 1 rfl rfl)
theorem dJ6_rotateRight_4 : decode cJ6_rotateRight 4 = .ok (.aload_n 1, 1) := dk_43 (dk_at dksJ6_rotateRight_0 4 rfl rfl)
theorem dJ6_rotateRight_5 : decode cJ6_rotateRight 5 = .ok (.getfield 111, 3) := dk_180 0 111 (dk_at dksJ6_rotateRight_0 5 rfl rfl)
theorem dJ6_rotateRight_8 : decode cJ6_rotateRight 8 = .ok (.astore_n 2, 1) := dk_77 (dk_at dksJ6_rotateRight_0 8 rfl rfl)
theorem dJ6_rotateRight_9 : decode cJ6_rotateRight 9 = .ok (.aload_n 1, 1) := dk_43 (dk_at dksJ6_rotateRight_0 9 rfl rfl)
theorem dJ6_rotateRight_10 : decode cJ6_rotateRight 10 = .ok (.aload_n 2, 1) := dk_44 (dk_at dksJ6_rotateRight_0 10 rfl rfl)
theorem dJ6_rotateRight_11 : decode cJ6_rotateRight 11 = .ok (.getfield 114, 3) := dk_180 0 114 (dk_at dksJ6_rotateRight_0 11 rfl rfl)
theorem dJ6_rotateRight_14 : decode cJ6_rotateRight 14 = .ok (.putfield 111, 3) := dk_181 0 111 (dk_at dksJ6_rotateRight_0 14 rfl rfl)
theorem dJ6_rotateRight_17 : decode cJ6_rotateRight 17 = .ok (.aload_n 2, 1) := dk_44 (dk_at dksJ6_rotateRight_0 17 rfl rfl)
theorem dJ6_rotateRight_18 : decode cJ6_rotateRight 18 = .ok (.getfield 114, 3) := dk_180 0 114 (dk_at dksJ6_rotateRight_0 18 rfl rfl)
theorem dJ6_rotateRight_21 : decode cJ6_rotateRight 21 = .ok (.ifnull 11, 3) := dk_198 0 11 (dk_at dksJ6_rotateRight_0 21 rfl rfl)
theorem dJ6_rotateRight_24 : decode cJ6_rotateRight 24 = .ok (.aload_n 2, 1) := dk_44 (dk_at dksJ6_rotateRight_1 0 rfl rfl)
theorem dJ6_rotateRight_25 : decode cJ6_rotateRight 25 = .ok (.getfield 114, 3) := dk_180 0 114 (dk_at dksJ6_rotateRight_1 1 rfl rfl)
theorem dJ6_rotateRight_28 : decode cJ6_rotateRight 28 = .ok (.aload_n 1, 1) := dk_43 (dk_at dksJ6_rotateRight_1 4 rfl rfl)
theorem dJ6_rotateRight_29 : decode cJ6_rotateRight 29 = .ok (.putfield 124, 3) := dk_181 0 124 (dk_at dksJ6_rotateRight_1 5 rfl rfl)
theorem dJ6_rotateRight_32 : decode cJ6_rotateRight 32 = .ok (.aload_n 2, 1) := dk_44 (dk_at dksJ6_rotateRight_1 8 rfl rfl)
theorem dJ6_rotateRight_33 : decode cJ6_rotateRight 33 = .ok (.aload_n 1, 1) := dk_43 (dk_at dksJ6_rotateRight_1 9 rfl rfl)
theorem dJ6_rotateRight_34 : decode cJ6_rotateRight 34 = .ok (.getfield 124, 3) := dk_180 0 124 (dk_at dksJ6_rotateRight_1 10 rfl rfl)
theorem dJ6_rotateRight_37 : decode cJ6_rotateRight 37 = .ok (.putfield 124, 3) := dk_181 0 124 (dk_at dksJ6_rotateRight_1 13 rfl rfl)
theorem dJ6_rotateRight_40 : decode cJ6_rotateRight 40 = .ok (.aload_n 1, 1) := dk_43 (dk_at dksJ6_rotateRight_1 16 rfl rfl)
theorem dJ6_rotateRight_41 : decode cJ6_rotateRight 41 = .ok (.getfield 124, 3) := dk_180 0 124 (dk_at dksJ6_rotateRight_1 17 rfl rfl)
theorem dJ6_rotateRight_44 : decode cJ6_rotateRight 44 = .ok (.ifnonnull 11, 3) := dk_199 0 11 (dk_at dksJ6_rotateRight_1 20 rfl rfl)
theorem dJ6_rotateRight_47 : decode cJ6_rotateRight 47 = .ok (.aload_n 0, 1) := dk_42 (dk_at dksJ6_rotateRight_1 23 rfl rfl)
theorem dJ6_rotateRight_48 : decode cJ6_rotateRight 48 = .ok (.aload_n 2, 1) := dk_44 (dk_at dksJ6_rotateRight_2 0 rfl rfl)
theorem dJ6_rotateRight_49 : decode cJ6_rotateRight 49 = .ok (.putfield 101, 3) := dk_181 0 101 (dk_at dksJ6_rotateRight_2 1 rfl rfl)
theorem dJ6_rotateRight_52 : decode cJ6_rotateRight 52 = .ok (.goto 33, 3) := dk_167 0 33 (dk_at dksJ6_rotateRight_2 4 rfl rfl)
theorem dJ6_rotateRight_55 : decode cJ6_rotateRight 55 = .ok (.aload_n 1, 1) := dk_43 (dk_at dksJ6_rotateRight_2 7 rfl rfl)
theorem dJ6_rotateRight_56 : decode cJ6_rotateRight 56 = .ok (.getfield 124, 3) := dk_180 0 124 (dk_at dksJ6_rotateRight_2 8 rfl rfl)
theorem dJ6_rotateRight_59 : decode cJ6_rotateRight 59 = .ok (.getfield 114, 3) := dk_180 0 114 (dk_at dksJ6_rotateRight_2 11 rfl rfl)
theorem dJ6_rotateRight_62 : decode cJ6_rotateRight 62 = .ok (.aload_n 1, 1) := dk_43 (dk_at dksJ6_rotateRight_2 14 rfl rfl)
theorem dJ6_rotateRight_63 : decode cJ6_rotateRight 63 = .ok (.if_acmp .ne 14, 3) := dk_166 0 14 (dk_at dksJ6_rotateRight_2 15 rfl rfl)
theorem dJ6_rotateRight_66 : decode cJ6_rotateRight 66 = .ok (.aload_n 1, 1) := dk_43 (dk_at dksJ6_rotateRight_2 18 rfl rfl)
theorem dJ6_rotateRight_67 : decode cJ6_rotateRight 67 = .ok (.getfield 124, 3) := dk_180 0 124 (dk_at dksJ6_rotateRight_2 19 rfl rfl)
theorem dJ6_rotateRight_70 : decode cJ6_rotateRight 70 = .ok (.aload_n 2, 1) := dk_44 (dk_at dksJ6_rotateRight_2 22 rfl rfl)
theorem dJ6_rotateRight_71 : decode cJ6_rotateRight 71 = .ok (.putfield 114, 3) := dk_181 0 114 (dk_at dksJ6_rotateRight_3 0 rfl rfl)
theorem dJ6_rotateRight_74 : decode cJ6_rotateRight 74 = .ok (.goto 11, 3) := dk_167 0 11 (dk_at dksJ6_rotateRight_3 3 rfl rfl)
theorem dJ6_rotateRight_77 : decode cJ6_rotateRight 77 = .ok (.aload_n 1, 1) := dk_43 (dk_at dksJ6_rotateRight_3 6 rfl rfl)
theorem dJ6_rotateRight_78 : decode cJ6_rotateRight 78 = .ok (.getfield 124, 3) := dk_180 0 124 (dk_at dksJ6_rotateRight_3 7 rfl rfl)
theorem dJ6_rotateRight_81 : decode cJ6_rotateRight 81 = .ok (.aload_n 2, 1) := dk_44 (dk_at dksJ6_rotateRight_3 10 rfl rfl)
theorem dJ6_rotateRight_82 : decode cJ6_rotateRight 82 = .ok (.putfield 111, 3) := dk_181 0 111 (dk_at dksJ6_rotateRight_3 11 rfl rfl)
theorem dJ6_rotateRight_85 : decode cJ6_rotateRight 85 = .ok (.aload_n 2, 1) := dk_44 (dk_at dksJ6_rotateRight_3 14 rfl rfl)
theorem dJ6_rotateRight_86 : decode cJ6_rotateRight 86 = .ok (.aload_n 1, 1) := dk_43 (dk_at dksJ6_rotateRight_3 15 rfl rfl)
theorem dJ6_rotateRight_87 : decode cJ6_rotateRight 87 = .ok (.putfield 114, 3) := dk_181 0 114 (dk_at dksJ6_rotateRight_3 16 rfl rfl)
theorem dJ6_rotateRight_90 : decode cJ6_rotateRight 90 = .ok (.aload_n 1, 1) := dk_43 (dk_at dksJ6_rotateRight_3 19 rfl rfl)
theorem dJ6_rotateRight_91 : decode cJ6_rotateRight 91 = .ok (.aload_n 2, 1) := dk_44 (dk_at dksJ6_rotateRight_3 20 rfl rfl)
theorem dJ6_rotateRight_92 : decode cJ6_rotateRight 92 = .ok (.putfield 124, 3) := dk_181 0 124 (dk_at dksJ6_rotateRight_3 21 rfl rfl)
theorem dJ6_rotateRight_95 : decode cJ6_rotateRight 95 = .ok (.return_, 1) := dk_177 (dk_at dksJ6_rotateRight_4 0 rfl rfl)
abbrev cJ6_keyIterator : ByteArray := prog_63_method_65_code
def yJ6_keyIterator : MethodName := ⟨RJ6, "keyIterator", "()Ljava/util/Iterator;"⟩
def dkwJ6_keyIterator_0 : List UInt8 := [187, 1, 13, 89, 42, 42, 182, 0, 54, 183, 1, 15, 176]
abbrev dktJ6_keyIterator_0 : List UInt8 := dkwJ6_keyIterator_0 ++ []
theorem dksJ6_keyIterator_0 : cJ6_keyIterator.data.toList.drop 0 = dktJ6_keyIterator_0 := by decide +kernel
theorem dJ6_keyIterator_0 : decode cJ6_keyIterator 0 = .ok (.new 269, 3) := dk_187 1 13 (dk_at dksJ6_keyIterator_0 0 rfl rfl)
theorem dJ6_keyIterator_3 : decode cJ6_keyIterator 3 = .ok (.dup, 1) := dk_89 (dk_at dksJ6_keyIterator_0 3 rfl rfl)
theorem dJ6_keyIterator_4 : decode cJ6_keyIterator 4 = .ok (.aload_n 0, 1) := dk_42 (dk_at dksJ6_keyIterator_0 4 rfl rfl)
theorem dJ6_keyIterator_5 : decode cJ6_keyIterator 5 = .ok (.aload_n 0, 1) := dk_42 (dk_at dksJ6_keyIterator_0 5 rfl rfl)
theorem dJ6_keyIterator_6 : decode cJ6_keyIterator 6 = .ok (.invokevirtual 54, 3) := dk_182 0 54 (dk_at dksJ6_keyIterator_0 6 rfl rfl)
theorem dJ6_keyIterator_9 : decode cJ6_keyIterator 9 = .ok (.invokespecial 271, 3) := dk_183 1 15 (dk_at dksJ6_keyIterator_0 9 rfl rfl)
theorem dJ6_keyIterator_12 : decode cJ6_keyIterator 12 = .ok (.areturn, 1) := dk_176 (dk_at dksJ6_keyIterator_0 12 rfl rfl)
abbrev cJ6_getFirstEntry : ByteArray := prog_63_method_72_code
def yJ6_getFirstEntry : MethodName := ⟨RJ6, "getFirstEntry", "()Ljava/util/TreeMap$Entry;"⟩
def dkwJ6_getFirstEntry_1 : List UInt8 := [43, 176]
abbrev dktJ6_getFirstEntry_1 : List UInt8 := dkwJ6_getFirstEntry_1 ++ []
def dkwJ6_getFirstEntry_0 : List UInt8 := [42, 180, 0, 101, 76, 43, 198, 0, 18, 43, 180, 0, 111, 198, 0, 11, 43, 180, 0, 111, 76, 167, 255, 244]
abbrev dktJ6_getFirstEntry_0 : List UInt8 := dkwJ6_getFirstEntry_0 ++ dktJ6_getFirstEntry_1
theorem dksJ6_getFirstEntry_0 : cJ6_getFirstEntry.data.toList.drop 0 = dktJ6_getFirstEntry_0 := by decide +kernel
theorem dksJ6_getFirstEntry_1 : cJ6_getFirstEntry.data.toList.drop 24 = dktJ6_getFirstEntry_1 := dk_seg dksJ6_getFirstEntry_0 24 rfl rfl
theorem dJ6_getFirstEntry_0 : decode cJ6_getFirstEntry 0 = .ok (.aload_n 0, 1) := dk_42 (dk_at dksJ6_getFirstEntry_0 0 rfl rfl)
theorem dJ6_getFirstEntry_1 : decode cJ6_getFirstEntry 1 = .ok (.getfield 101, 3) := dk_180 0 101 (dk_at dksJ6_getFirstEntry_0 1 rfl rfl)
theorem dJ6_getFirstEntry_4 : decode cJ6_getFirstEntry 4 = .ok (.astore_n 1, 1) := dk_76 (dk_at dksJ6_getFirstEntry_0 4 rfl rfl)
theorem dJ6_getFirstEntry_5 : decode cJ6_getFirstEntry 5 = .ok (.aload_n 1, 1) := dk_43 (dk_at dksJ6_getFirstEntry_0 5 rfl rfl)
theorem dJ6_getFirstEntry_6 : decode cJ6_getFirstEntry 6 = .ok (.ifnull 18, 3) := dk_198 0 18 (dk_at dksJ6_getFirstEntry_0 6 rfl rfl)
theorem dJ6_getFirstEntry_9 : decode cJ6_getFirstEntry 9 = .ok (.aload_n 1, 1) := dk_43 (dk_at dksJ6_getFirstEntry_0 9 rfl rfl)
theorem dJ6_getFirstEntry_10 : decode cJ6_getFirstEntry 10 = .ok (.getfield 111, 3) := dk_180 0 111 (dk_at dksJ6_getFirstEntry_0 10 rfl rfl)
theorem dJ6_getFirstEntry_13 : decode cJ6_getFirstEntry 13 = .ok (.ifnull 11, 3) := dk_198 0 11 (dk_at dksJ6_getFirstEntry_0 13 rfl rfl)
theorem dJ6_getFirstEntry_16 : decode cJ6_getFirstEntry 16 = .ok (.aload_n 1, 1) := dk_43 (dk_at dksJ6_getFirstEntry_0 16 rfl rfl)
theorem dJ6_getFirstEntry_17 : decode cJ6_getFirstEntry 17 = .ok (.getfield 111, 3) := dk_180 0 111 (dk_at dksJ6_getFirstEntry_0 17 rfl rfl)
theorem dJ6_getFirstEntry_20 : decode cJ6_getFirstEntry 20 = .ok (.astore_n 1, 1) := dk_76 (dk_at dksJ6_getFirstEntry_0 20 rfl rfl)
theorem dJ6_getFirstEntry_21 : decode cJ6_getFirstEntry 21 = .ok (.goto (-12), 3) := dk_167 255 244 (dk_at dksJ6_getFirstEntry_0 21 rfl rfl)
theorem dJ6_getFirstEntry_24 : decode cJ6_getFirstEntry 24 = .ok (.aload_n 1, 1) := dk_43 (dk_at dksJ6_getFirstEntry_1 0 rfl rfl)
theorem dJ6_getFirstEntry_25 : decode cJ6_getFirstEntry 25 = .ok (.areturn, 1) := dk_176 (dk_at dksJ6_getFirstEntry_1 1 rfl rfl)
abbrev cJ6_navigableKeySet : ByteArray := prog_63_method_50_code
def yJ6_navigableKeySet : MethodName := ⟨RJ6, "navigableKeySet", "()Ljava/util/NavigableSet;"⟩
def dkwJ6_navigableKeySet_1 : List UInt8 := [181, 0, 191, 176]
abbrev dktJ6_navigableKeySet_1 : List UInt8 := dkwJ6_navigableKeySet_1 ++ []
def dkwJ6_navigableKeySet_0 : List UInt8 := [42, 180, 0, 191, 76, 43, 198, 0, 7, 43, 167, 0, 16, 42, 187, 0, 222, 89, 42, 183, 0, 224, 90]
abbrev dktJ6_navigableKeySet_0 : List UInt8 := dkwJ6_navigableKeySet_0 ++ dktJ6_navigableKeySet_1
theorem dksJ6_navigableKeySet_0 : cJ6_navigableKeySet.data.toList.drop 0 = dktJ6_navigableKeySet_0 := by decide +kernel
theorem dksJ6_navigableKeySet_1 : cJ6_navigableKeySet.data.toList.drop 23 = dktJ6_navigableKeySet_1 := dk_seg dksJ6_navigableKeySet_0 23 rfl rfl
theorem dJ6_navigableKeySet_0 : decode cJ6_navigableKeySet 0 = .ok (.aload_n 0, 1) := dk_42 (dk_at dksJ6_navigableKeySet_0 0 rfl rfl)
theorem dJ6_navigableKeySet_1 : decode cJ6_navigableKeySet 1 = .ok (.getfield 191, 3) := dk_180 0 191 (dk_at dksJ6_navigableKeySet_0 1 rfl rfl)
theorem dJ6_navigableKeySet_4 : decode cJ6_navigableKeySet 4 = .ok (.astore_n 1, 1) := dk_76 (dk_at dksJ6_navigableKeySet_0 4 rfl rfl)
theorem dJ6_navigableKeySet_5 : decode cJ6_navigableKeySet 5 = .ok (.aload_n 1, 1) := dk_43 (dk_at dksJ6_navigableKeySet_0 5 rfl rfl)
theorem dJ6_navigableKeySet_6 : decode cJ6_navigableKeySet 6 = .ok (.ifnull 7, 3) := dk_198 0 7 (dk_at dksJ6_navigableKeySet_0 6 rfl rfl)
theorem dJ6_navigableKeySet_9 : decode cJ6_navigableKeySet 9 = .ok (.aload_n 1, 1) := dk_43 (dk_at dksJ6_navigableKeySet_0 9 rfl rfl)
theorem dJ6_navigableKeySet_10 : decode cJ6_navigableKeySet 10 = .ok (.goto 16, 3) := dk_167 0 16 (dk_at dksJ6_navigableKeySet_0 10 rfl rfl)
theorem dJ6_navigableKeySet_13 : decode cJ6_navigableKeySet 13 = .ok (.aload_n 0, 1) := dk_42 (dk_at dksJ6_navigableKeySet_0 13 rfl rfl)
theorem dJ6_navigableKeySet_14 : decode cJ6_navigableKeySet 14 = .ok (.new 222, 3) := dk_187 0 222 (dk_at dksJ6_navigableKeySet_0 14 rfl rfl)
theorem dJ6_navigableKeySet_17 : decode cJ6_navigableKeySet 17 = .ok (.dup, 1) := dk_89 (dk_at dksJ6_navigableKeySet_0 17 rfl rfl)
theorem dJ6_navigableKeySet_18 : decode cJ6_navigableKeySet 18 = .ok (.aload_n 0, 1) := dk_42 (dk_at dksJ6_navigableKeySet_0 18 rfl rfl)
theorem dJ6_navigableKeySet_19 : decode cJ6_navigableKeySet 19 = .ok (.invokespecial 224, 3) := dk_183 0 224 (dk_at dksJ6_navigableKeySet_0 19 rfl rfl)
theorem dJ6_navigableKeySet_22 : decode cJ6_navigableKeySet 22 = .ok (.dup_x1, 1) := dk_90 (dk_at dksJ6_navigableKeySet_0 22 rfl rfl)
theorem dJ6_navigableKeySet_23 : decode cJ6_navigableKeySet 23 = .ok (.putfield 191, 3) := dk_181 0 191 (dk_at dksJ6_navigableKeySet_1 0 rfl rfl)
theorem dJ6_navigableKeySet_26 : decode cJ6_navigableKeySet 26 = .ok (.areturn, 1) := dk_176 (dk_at dksJ6_navigableKeySet_1 3 rfl rfl)
abbrev cJ6_remove : ByteArray := prog_63_method_34_code
def yJ6_remove : MethodName := ⟨RJ6, "remove", "(Ljava/lang/Object;)Ljava/lang/Object;"⟩
def dkwJ6_remove_0 : List UInt8 := [42, 43, 182, 0, 50, 77, 44, 199, 0, 5, 1, 176, 44, 180, 0, 58, 78, 42, 44, 182, 0, 174, 45, 176]
abbrev dktJ6_remove_0 : List UInt8 := dkwJ6_remove_0 ++ []
theorem dksJ6_remove_0 : cJ6_remove.data.toList.drop 0 = dktJ6_remove_0 := by decide +kernel
theorem dJ6_remove_0 : decode cJ6_remove 0 = .ok (.aload_n 0, 1) := dk_42 (dk_at dksJ6_remove_0 0 rfl rfl)
theorem dJ6_remove_1 : decode cJ6_remove 1 = .ok (.aload_n 1, 1) := dk_43 (dk_at dksJ6_remove_0 1 rfl rfl)
theorem dJ6_remove_2 : decode cJ6_remove 2 = .ok (.invokevirtual 50, 3) := dk_182 0 50 (dk_at dksJ6_remove_0 2 rfl rfl)
theorem dJ6_remove_5 : decode cJ6_remove 5 = .ok (.astore_n 2, 1) := dk_77 (dk_at dksJ6_remove_0 5 rfl rfl)
theorem dJ6_remove_6 : decode cJ6_remove 6 = .ok (.aload_n 2, 1) := dk_44 (dk_at dksJ6_remove_0 6 rfl rfl)
theorem dJ6_remove_7 : decode cJ6_remove 7 = .ok (.ifnonnull 5, 3) := dk_199 0 5 (dk_at dksJ6_remove_0 7 rfl rfl)
theorem dJ6_remove_10 : decode cJ6_remove 10 = .ok (.aconst_null, 1) := dk_1 (dk_at dksJ6_remove_0 10 rfl rfl)
theorem dJ6_remove_11 : decode cJ6_remove 11 = .ok (.areturn, 1) := dk_176 (dk_at dksJ6_remove_0 11 rfl rfl)
theorem dJ6_remove_12 : decode cJ6_remove 12 = .ok (.aload_n 2, 1) := dk_44 (dk_at dksJ6_remove_0 12 rfl rfl)
theorem dJ6_remove_13 : decode cJ6_remove 13 = .ok (.getfield 58, 3) := dk_180 0 58 (dk_at dksJ6_remove_0 13 rfl rfl)
theorem dJ6_remove_16 : decode cJ6_remove 16 = .ok (.astore_n 3, 1) := dk_78 (dk_at dksJ6_remove_0 16 rfl rfl)
theorem dJ6_remove_17 : decode cJ6_remove 17 = .ok (.aload_n 0, 1) := dk_42 (dk_at dksJ6_remove_0 17 rfl rfl)
theorem dJ6_remove_18 : decode cJ6_remove 18 = .ok (.aload_n 2, 1) := dk_44 (dk_at dksJ6_remove_0 18 rfl rfl)
theorem dJ6_remove_19 : decode cJ6_remove 19 = .ok (.invokevirtual 174, 3) := dk_182 0 174 (dk_at dksJ6_remove_0 19 rfl rfl)
theorem dJ6_remove_22 : decode cJ6_remove 22 = .ok (.aload_n 3, 1) := dk_45 (dk_at dksJ6_remove_0 22 rfl rfl)
theorem dJ6_remove_23 : decode cJ6_remove 23 = .ok (.areturn, 1) := dk_176 (dk_at dksJ6_remove_0 23 rfl rfl)
abbrev cJ6_getEntry : ByteArray := prog_63_method_15_code
def yJ6_getEntry : MethodName := ⟨RJ6, "getEntry", "(Ljava/lang/Object;)Ljava/util/TreeMap$Entry;"⟩
def dkwJ6_getEntry_3 : List UInt8 := [45, 176, 167, 255, 212, 1, 176]
abbrev dktJ6_getEntry_3 : List UInt8 := dkwJ6_getEntry_3 ++ []
def dkwJ6_getEntry_2 : List UInt8 := [156, 0, 11, 45, 180, 0, 111, 78, 167, 0, 18, 21, 4, 158, 0, 11, 45, 180, 0, 114, 78, 167, 0, 5]
abbrev dktJ6_getEntry_2 : List UInt8 := dkwJ6_getEntry_2 ++ dktJ6_getEntry_3
def dkwJ6_getEntry_1 : List UInt8 := [180, 0, 101, 78, 45, 198, 0, 46, 44, 45, 180, 0, 105, 185, 0, 107, 2, 0, 54, 4, 21, 4]
abbrev dktJ6_getEntry_1 : List UInt8 := dkwJ6_getEntry_1 ++ dktJ6_getEntry_2
def dkwJ6_getEntry_0 : List UInt8 := [42, 180, 0, 16, 198, 0, 9, 42, 43, 182, 0, 92, 176, 43, 184, 0, 95, 87, 43, 192, 0, 99, 77, 42]
abbrev dktJ6_getEntry_0 : List UInt8 := dkwJ6_getEntry_0 ++ dktJ6_getEntry_1
theorem dksJ6_getEntry_0 : cJ6_getEntry.data.toList.drop 0 = dktJ6_getEntry_0 := by decide +kernel
theorem dksJ6_getEntry_1 : cJ6_getEntry.data.toList.drop 24 = dktJ6_getEntry_1 := dk_seg dksJ6_getEntry_0 24 rfl rfl
theorem dksJ6_getEntry_2 : cJ6_getEntry.data.toList.drop 46 = dktJ6_getEntry_2 := dk_seg dksJ6_getEntry_1 22 rfl rfl
theorem dksJ6_getEntry_3 : cJ6_getEntry.data.toList.drop 70 = dktJ6_getEntry_3 := dk_seg dksJ6_getEntry_2 24 rfl rfl
theorem dJ6_getEntry_0 : decode cJ6_getEntry 0 = .ok (.aload_n 0, 1) := dk_42 (dk_at dksJ6_getEntry_0 0 rfl rfl)
theorem dJ6_getEntry_1 : decode cJ6_getEntry 1 = .ok (.getfield 16, 3) := dk_180 0 16 (dk_at dksJ6_getEntry_0 1 rfl rfl)
theorem dJ6_getEntry_4 : decode cJ6_getEntry 4 = .ok (.ifnull 9, 3) := dk_198 0 9 (dk_at dksJ6_getEntry_0 4 rfl rfl)
theorem dJ6_getEntry_7 : decode cJ6_getEntry 7 = .ok (.aload_n 0, 1) := dk_42 (dk_at dksJ6_getEntry_0 7 rfl rfl)
theorem dJ6_getEntry_8 : decode cJ6_getEntry 8 = .ok (.aload_n 1, 1) := dk_43 (dk_at dksJ6_getEntry_0 8 rfl rfl)
theorem dJ6_getEntry_9 : decode cJ6_getEntry 9 = .ok (.invokevirtual 92, 3) := dk_182 0 92 (dk_at dksJ6_getEntry_0 9 rfl rfl)
theorem dJ6_getEntry_12 : decode cJ6_getEntry 12 = .ok (.areturn, 1) := dk_176 (dk_at dksJ6_getEntry_0 12 rfl rfl)
theorem dJ6_getEntry_13 : decode cJ6_getEntry 13 = .ok (.aload_n 1, 1) := dk_43 (dk_at dksJ6_getEntry_0 13 rfl rfl)
theorem dJ6_getEntry_14 : decode cJ6_getEntry 14 = .ok (.invokestatic 95, 3) := dk_184 0 95 (dk_at dksJ6_getEntry_0 14 rfl rfl)
theorem dJ6_getEntry_17 : decode cJ6_getEntry 17 = .ok (.pop, 1) := dk_87 (dk_at dksJ6_getEntry_0 17 rfl rfl)
theorem dJ6_getEntry_18 : decode cJ6_getEntry 18 = .ok (.aload_n 1, 1) := dk_43 (dk_at dksJ6_getEntry_0 18 rfl rfl)
theorem dJ6_getEntry_19 : decode cJ6_getEntry 19 = .ok (.checkcast 99, 3) := dk_192 0 99 (dk_at dksJ6_getEntry_0 19 rfl rfl)
theorem dJ6_getEntry_22 : decode cJ6_getEntry 22 = .ok (.astore_n 2, 1) := dk_77 (dk_at dksJ6_getEntry_0 22 rfl rfl)
theorem dJ6_getEntry_23 : decode cJ6_getEntry 23 = .ok (.aload_n 0, 1) := dk_42 (dk_at dksJ6_getEntry_0 23 rfl rfl)
theorem dJ6_getEntry_24 : decode cJ6_getEntry 24 = .ok (.getfield 101, 3) := dk_180 0 101 (dk_at dksJ6_getEntry_1 0 rfl rfl)
theorem dJ6_getEntry_27 : decode cJ6_getEntry 27 = .ok (.astore_n 3, 1) := dk_78 (dk_at dksJ6_getEntry_1 3 rfl rfl)
theorem dJ6_getEntry_28 : decode cJ6_getEntry 28 = .ok (.aload_n 3, 1) := dk_45 (dk_at dksJ6_getEntry_1 4 rfl rfl)
theorem dJ6_getEntry_29 : decode cJ6_getEntry 29 = .ok (.ifnull 46, 3) := dk_198 0 46 (dk_at dksJ6_getEntry_1 5 rfl rfl)
theorem dJ6_getEntry_32 : decode cJ6_getEntry 32 = .ok (.aload_n 2, 1) := dk_44 (dk_at dksJ6_getEntry_1 8 rfl rfl)
theorem dJ6_getEntry_33 : decode cJ6_getEntry 33 = .ok (.aload_n 3, 1) := dk_45 (dk_at dksJ6_getEntry_1 9 rfl rfl)
theorem dJ6_getEntry_34 : decode cJ6_getEntry 34 = .ok (.getfield 105, 3) := dk_180 0 105 (dk_at dksJ6_getEntry_1 10 rfl rfl)
theorem dJ6_getEntry_37 : decode cJ6_getEntry 37 = .ok (.invokeinterface 107 2, 5) := by decide +kernel
theorem dJ6_getEntry_42 : decode cJ6_getEntry 42 = .ok (.istore 4, 2) := dk_54 4 (dk_at dksJ6_getEntry_1 18 rfl rfl)
theorem dJ6_getEntry_44 : decode cJ6_getEntry 44 = .ok (.iload 4, 2) := dk_21 4 (dk_at dksJ6_getEntry_1 20 rfl rfl)
theorem dJ6_getEntry_46 : decode cJ6_getEntry 46 = .ok (.ifCond .ge 11, 3) := dk_156 0 11 (dk_at dksJ6_getEntry_2 0 rfl rfl)
theorem dJ6_getEntry_49 : decode cJ6_getEntry 49 = .ok (.aload_n 3, 1) := dk_45 (dk_at dksJ6_getEntry_2 3 rfl rfl)
theorem dJ6_getEntry_50 : decode cJ6_getEntry 50 = .ok (.getfield 111, 3) := dk_180 0 111 (dk_at dksJ6_getEntry_2 4 rfl rfl)
theorem dJ6_getEntry_53 : decode cJ6_getEntry 53 = .ok (.astore_n 3, 1) := dk_78 (dk_at dksJ6_getEntry_2 7 rfl rfl)
theorem dJ6_getEntry_54 : decode cJ6_getEntry 54 = .ok (.goto 18, 3) := dk_167 0 18 (dk_at dksJ6_getEntry_2 8 rfl rfl)
theorem dJ6_getEntry_57 : decode cJ6_getEntry 57 = .ok (.iload 4, 2) := dk_21 4 (dk_at dksJ6_getEntry_2 11 rfl rfl)
theorem dJ6_getEntry_59 : decode cJ6_getEntry 59 = .ok (.ifCond .le 11, 3) := dk_158 0 11 (dk_at dksJ6_getEntry_2 13 rfl rfl)
theorem dJ6_getEntry_62 : decode cJ6_getEntry 62 = .ok (.aload_n 3, 1) := dk_45 (dk_at dksJ6_getEntry_2 16 rfl rfl)
theorem dJ6_getEntry_63 : decode cJ6_getEntry 63 = .ok (.getfield 114, 3) := dk_180 0 114 (dk_at dksJ6_getEntry_2 17 rfl rfl)
theorem dJ6_getEntry_66 : decode cJ6_getEntry 66 = .ok (.astore_n 3, 1) := dk_78 (dk_at dksJ6_getEntry_2 20 rfl rfl)
theorem dJ6_getEntry_67 : decode cJ6_getEntry 67 = .ok (.goto 5, 3) := dk_167 0 5 (dk_at dksJ6_getEntry_2 21 rfl rfl)
theorem dJ6_getEntry_70 : decode cJ6_getEntry 70 = .ok (.aload_n 3, 1) := dk_45 (dk_at dksJ6_getEntry_3 0 rfl rfl)
theorem dJ6_getEntry_71 : decode cJ6_getEntry 71 = .ok (.areturn, 1) := dk_176 (dk_at dksJ6_getEntry_3 1 rfl rfl)
theorem dJ6_getEntry_72 : decode cJ6_getEntry 72 = .ok (.goto (-44), 3) := dk_167 255 212 (dk_at dksJ6_getEntry_3 2 rfl rfl)
theorem dJ6_getEntry_75 : decode cJ6_getEntry 75 = .ok (.aconst_null, 1) := dk_1 (dk_at dksJ6_getEntry_3 5 rfl rfl)
theorem dJ6_getEntry_76 : decode cJ6_getEntry 76 = .ok (.areturn, 1) := dk_176 (dk_at dksJ6_getEntry_3 6 rfl rfl)
abbrev cJ6_getEntryUsingComparator : ByteArray := prog_63_method_16_code
def yJ6_getEntryUsingComparator : MethodName := ⟨RJ6, "getEntryUsingComparator", "(Ljava/lang/Object;)Ljava/util/TreeMap$Entry;"⟩
def dkwJ6_getEntryUsingComparator_3 : List UInt8 := [1, 176]
abbrev dktJ6_getEntryUsingComparator_3 : List UInt8 := dkwJ6_getEntryUsingComparator_3 ++ []
def dkwJ6_getEntryUsingComparator_2 : List UInt8 := [167, 0, 21, 21, 5, 158, 0, 13, 25, 4, 180, 0, 114, 58, 4, 167, 0, 6, 25, 4, 176, 167, 255, 204]
abbrev dktJ6_getEntryUsingComparator_2 : List UInt8 := dkwJ6_getEntryUsingComparator_2 ++ dktJ6_getEntryUsingComparator_3
def dkwJ6_getEntryUsingComparator_1 : List UInt8 := [25, 4, 180, 0, 105, 185, 0, 117, 3, 0, 54, 5, 21, 5, 156, 0, 13, 25, 4, 180, 0, 111, 58, 4]
abbrev dktJ6_getEntryUsingComparator_1 : List UInt8 := dkwJ6_getEntryUsingComparator_1 ++ dktJ6_getEntryUsingComparator_2
def dkwJ6_getEntryUsingComparator_0 : List UInt8 := [43, 77, 42, 180, 0, 16, 78, 45, 198, 0, 64, 42, 180, 0, 101, 58, 4, 25, 4, 198, 0, 53, 45, 44]
abbrev dktJ6_getEntryUsingComparator_0 : List UInt8 := dkwJ6_getEntryUsingComparator_0 ++ dktJ6_getEntryUsingComparator_1
theorem dksJ6_getEntryUsingComparator_0 : cJ6_getEntryUsingComparator.data.toList.drop 0 = dktJ6_getEntryUsingComparator_0 := by decide +kernel
theorem dksJ6_getEntryUsingComparator_1 : cJ6_getEntryUsingComparator.data.toList.drop 24 = dktJ6_getEntryUsingComparator_1 := dk_seg dksJ6_getEntryUsingComparator_0 24 rfl rfl
theorem dksJ6_getEntryUsingComparator_2 : cJ6_getEntryUsingComparator.data.toList.drop 48 = dktJ6_getEntryUsingComparator_2 := dk_seg dksJ6_getEntryUsingComparator_1 24 rfl rfl
theorem dksJ6_getEntryUsingComparator_3 : cJ6_getEntryUsingComparator.data.toList.drop 72 = dktJ6_getEntryUsingComparator_3 := dk_seg dksJ6_getEntryUsingComparator_2 24 rfl rfl
theorem dJ6_getEntryUsingComparator_0 : decode cJ6_getEntryUsingComparator 0 = .ok (.aload_n 1, 1) := dk_43 (dk_at dksJ6_getEntryUsingComparator_0 0 rfl rfl)
theorem dJ6_getEntryUsingComparator_1 : decode cJ6_getEntryUsingComparator 1 = .ok (.astore_n 2, 1) := dk_77 (dk_at dksJ6_getEntryUsingComparator_0 1 rfl rfl)
theorem dJ6_getEntryUsingComparator_2 : decode cJ6_getEntryUsingComparator 2 = .ok (.aload_n 0, 1) := dk_42 (dk_at dksJ6_getEntryUsingComparator_0 2 rfl rfl)
theorem dJ6_getEntryUsingComparator_3 : decode cJ6_getEntryUsingComparator 3 = .ok (.getfield 16, 3) := dk_180 0 16 (dk_at dksJ6_getEntryUsingComparator_0 3 rfl rfl)
theorem dJ6_getEntryUsingComparator_6 : decode cJ6_getEntryUsingComparator 6 = .ok (.astore_n 3, 1) := dk_78 (dk_at dksJ6_getEntryUsingComparator_0 6 rfl rfl)
theorem dJ6_getEntryUsingComparator_7 : decode cJ6_getEntryUsingComparator 7 = .ok (.aload_n 3, 1) := dk_45 (dk_at dksJ6_getEntryUsingComparator_0 7 rfl rfl)
theorem dJ6_getEntryUsingComparator_8 : decode cJ6_getEntryUsingComparator 8 = .ok (.ifnull 64, 3) := dk_198 0 64 (dk_at dksJ6_getEntryUsingComparator_0 8 rfl rfl)
theorem dJ6_getEntryUsingComparator_11 : decode cJ6_getEntryUsingComparator 11 = .ok (.aload_n 0, 1) := dk_42 (dk_at dksJ6_getEntryUsingComparator_0 11 rfl rfl)
theorem dJ6_getEntryUsingComparator_12 : decode cJ6_getEntryUsingComparator 12 = .ok (.getfield 101, 3) := dk_180 0 101 (dk_at dksJ6_getEntryUsingComparator_0 12 rfl rfl)
theorem dJ6_getEntryUsingComparator_15 : decode cJ6_getEntryUsingComparator 15 = .ok (.astore 4, 2) := dk_58 4 (dk_at dksJ6_getEntryUsingComparator_0 15 rfl rfl)
theorem dJ6_getEntryUsingComparator_17 : decode cJ6_getEntryUsingComparator 17 = .ok (.aload 4, 2) := dk_25 4 (dk_at dksJ6_getEntryUsingComparator_0 17 rfl rfl)
theorem dJ6_getEntryUsingComparator_19 : decode cJ6_getEntryUsingComparator 19 = .ok (.ifnull 53, 3) := dk_198 0 53 (dk_at dksJ6_getEntryUsingComparator_0 19 rfl rfl)
theorem dJ6_getEntryUsingComparator_22 : decode cJ6_getEntryUsingComparator 22 = .ok (.aload_n 3, 1) := dk_45 (dk_at dksJ6_getEntryUsingComparator_0 22 rfl rfl)
theorem dJ6_getEntryUsingComparator_23 : decode cJ6_getEntryUsingComparator 23 = .ok (.aload_n 2, 1) := dk_44 (dk_at dksJ6_getEntryUsingComparator_0 23 rfl rfl)
theorem dJ6_getEntryUsingComparator_24 : decode cJ6_getEntryUsingComparator 24 = .ok (.aload 4, 2) := dk_25 4 (dk_at dksJ6_getEntryUsingComparator_1 0 rfl rfl)
theorem dJ6_getEntryUsingComparator_26 : decode cJ6_getEntryUsingComparator 26 = .ok (.getfield 105, 3) := dk_180 0 105 (dk_at dksJ6_getEntryUsingComparator_1 2 rfl rfl)
theorem dJ6_getEntryUsingComparator_29 : decode cJ6_getEntryUsingComparator 29 = .ok (.invokeinterface 117 3, 5) := by decide +kernel
theorem dJ6_getEntryUsingComparator_34 : decode cJ6_getEntryUsingComparator 34 = .ok (.istore 5, 2) := dk_54 5 (dk_at dksJ6_getEntryUsingComparator_1 10 rfl rfl)
theorem dJ6_getEntryUsingComparator_36 : decode cJ6_getEntryUsingComparator 36 = .ok (.iload 5, 2) := dk_21 5 (dk_at dksJ6_getEntryUsingComparator_1 12 rfl rfl)
theorem dJ6_getEntryUsingComparator_38 : decode cJ6_getEntryUsingComparator 38 = .ok (.ifCond .ge 13, 3) := dk_156 0 13 (dk_at dksJ6_getEntryUsingComparator_1 14 rfl rfl)
theorem dJ6_getEntryUsingComparator_41 : decode cJ6_getEntryUsingComparator 41 = .ok (.aload 4, 2) := dk_25 4 (dk_at dksJ6_getEntryUsingComparator_1 17 rfl rfl)
theorem dJ6_getEntryUsingComparator_43 : decode cJ6_getEntryUsingComparator 43 = .ok (.getfield 111, 3) := dk_180 0 111 (dk_at dksJ6_getEntryUsingComparator_1 19 rfl rfl)
theorem dJ6_getEntryUsingComparator_46 : decode cJ6_getEntryUsingComparator 46 = .ok (.astore 4, 2) := dk_58 4 (dk_at dksJ6_getEntryUsingComparator_1 22 rfl rfl)
theorem dJ6_getEntryUsingComparator_48 : decode cJ6_getEntryUsingComparator 48 = .ok (.goto 21, 3) := dk_167 0 21 (dk_at dksJ6_getEntryUsingComparator_2 0 rfl rfl)
theorem dJ6_getEntryUsingComparator_51 : decode cJ6_getEntryUsingComparator 51 = .ok (.iload 5, 2) := dk_21 5 (dk_at dksJ6_getEntryUsingComparator_2 3 rfl rfl)
theorem dJ6_getEntryUsingComparator_53 : decode cJ6_getEntryUsingComparator 53 = .ok (.ifCond .le 13, 3) := dk_158 0 13 (dk_at dksJ6_getEntryUsingComparator_2 5 rfl rfl)
theorem dJ6_getEntryUsingComparator_56 : decode cJ6_getEntryUsingComparator 56 = .ok (.aload 4, 2) := dk_25 4 (dk_at dksJ6_getEntryUsingComparator_2 8 rfl rfl)
theorem dJ6_getEntryUsingComparator_58 : decode cJ6_getEntryUsingComparator 58 = .ok (.getfield 114, 3) := dk_180 0 114 (dk_at dksJ6_getEntryUsingComparator_2 10 rfl rfl)
theorem dJ6_getEntryUsingComparator_61 : decode cJ6_getEntryUsingComparator 61 = .ok (.astore 4, 2) := dk_58 4 (dk_at dksJ6_getEntryUsingComparator_2 13 rfl rfl)
theorem dJ6_getEntryUsingComparator_63 : decode cJ6_getEntryUsingComparator 63 = .ok (.goto 6, 3) := dk_167 0 6 (dk_at dksJ6_getEntryUsingComparator_2 15 rfl rfl)
theorem dJ6_getEntryUsingComparator_66 : decode cJ6_getEntryUsingComparator 66 = .ok (.aload 4, 2) := dk_25 4 (dk_at dksJ6_getEntryUsingComparator_2 18 rfl rfl)
theorem dJ6_getEntryUsingComparator_68 : decode cJ6_getEntryUsingComparator 68 = .ok (.areturn, 1) := dk_176 (dk_at dksJ6_getEntryUsingComparator_2 20 rfl rfl)
theorem dJ6_getEntryUsingComparator_69 : decode cJ6_getEntryUsingComparator 69 = .ok (.goto (-52), 3) := dk_167 255 204 (dk_at dksJ6_getEntryUsingComparator_2 21 rfl rfl)
theorem dJ6_getEntryUsingComparator_72 : decode cJ6_getEntryUsingComparator 72 = .ok (.aconst_null, 1) := dk_1 (dk_at dksJ6_getEntryUsingComparator_3 0 rfl rfl)
theorem dJ6_getEntryUsingComparator_73 : decode cJ6_getEntryUsingComparator 73 = .ok (.areturn, 1) := dk_176 (dk_at dksJ6_getEntryUsingComparator_3 1 rfl rfl)
abbrev cJ6_deleteEntry : ByteArray := prog_63_method_84_code
def yJ6_deleteEntry : MethodName := ⟨RJ6, "deleteEntry", "(Ljava/util/TreeMap$Entry;)V"⟩
def dkwJ6_deleteEntry_10 : List UInt8 := [180, 0, 124, 1, 181, 0, 114, 43, 1, 181, 0, 124, 177]
abbrev dktJ6_deleteEntry_10 : List UInt8 := dkwJ6_deleteEntry_10 ++ []
def dkwJ6_deleteEntry_9 : List UInt8 := [180, 0, 124, 1, 181, 0, 111, 167, 0, 22, 43, 43, 180, 0, 124, 180, 0, 114, 166, 0, 11, 43]
abbrev dktJ6_deleteEntry_9 : List UInt8 := dkwJ6_deleteEntry_9 ++ dktJ6_deleteEntry_10
def dkwJ6_deleteEntry_8 : List UInt8 := [182, 1, 61, 43, 180, 0, 124, 198, 0, 49, 43, 43, 180, 0, 124, 180, 0, 111, 166, 0, 14, 43]
abbrev dktJ6_deleteEntry_8 : List UInt8 := dkwJ6_deleteEntry_8 ++ dktJ6_deleteEntry_9
def dkwJ6_deleteEntry_7 : List UInt8 := [180, 0, 124, 199, 0, 11, 42, 1, 181, 0, 101, 167, 0, 69, 43, 180, 1, 34, 4, 160, 0, 8, 42, 43]
abbrev dktJ6_deleteEntry_7 : List UInt8 := dkwJ6_deleteEntry_7 ++ dktJ6_deleteEntry_8
def dkwJ6_deleteEntry_6 : List UInt8 := [181, 0, 114, 181, 0, 111, 43, 180, 1, 34, 4, 160, 0, 92, 42, 44, 182, 1, 61, 167, 0, 84, 43]
abbrev dktJ6_deleteEntry_6 : List UInt8 := dkwJ6_deleteEntry_6 ++ dktJ6_deleteEntry_7
def dkwJ6_deleteEntry_5 : List UInt8 := [181, 0, 111, 167, 0, 11, 43, 180, 0, 124, 44, 181, 0, 114, 43, 43, 43, 1, 90, 181, 0, 124, 90]
abbrev dktJ6_deleteEntry_5 : List UInt8 := dkwJ6_deleteEntry_5 ++ dktJ6_deleteEntry_6
def dkwJ6_deleteEntry_4 : List UInt8 := [44, 181, 0, 101, 167, 0, 33, 43, 43, 180, 0, 124, 180, 0, 111, 166, 0, 14, 43, 180, 0, 124, 44]
abbrev dktJ6_deleteEntry_4 : List UInt8 := dkwJ6_deleteEntry_4 ++ dktJ6_deleteEntry_5
def dkwJ6_deleteEntry_3 : List UInt8 := [180, 0, 114, 77, 44, 198, 0, 87, 44, 43, 180, 0, 124, 181, 0, 124, 43, 180, 0, 124, 199, 0, 11, 42]
abbrev dktJ6_deleteEntry_3 : List UInt8 := dkwJ6_deleteEntry_3 ++ dktJ6_deleteEntry_4
def dkwJ6_deleteEntry_2 : List UInt8 := [44, 180, 0, 58, 181, 0, 58, 44, 76, 43, 180, 0, 111, 198, 0, 10, 43, 180, 0, 111, 167, 0, 7, 43]
abbrev dktJ6_deleteEntry_2 : List UInt8 := dkwJ6_deleteEntry_2 ++ dktJ6_deleteEntry_3
def dkwJ6_deleteEntry_1 : List UInt8 := [198, 0, 33, 43, 180, 0, 114, 198, 0, 26, 43, 184, 0, 68, 77, 43, 44, 180, 0, 105, 181, 0, 105, 43]
abbrev dktJ6_deleteEntry_1 : List UInt8 := dkwJ6_deleteEntry_1 ++ dktJ6_deleteEntry_2
def dkwJ6_deleteEntry_0 : List UInt8 := [42, 89, 180, 0, 13, 4, 96, 181, 0, 13, 42, 89, 180, 0, 7, 4, 100, 181, 0, 7, 43, 180, 0, 111]
abbrev dktJ6_deleteEntry_0 : List UInt8 := dkwJ6_deleteEntry_0 ++ dktJ6_deleteEntry_1
theorem dksJ6_deleteEntry_0 : cJ6_deleteEntry.data.toList.drop 0 = dktJ6_deleteEntry_0 := by decide +kernel
theorem dksJ6_deleteEntry_1 : cJ6_deleteEntry.data.toList.drop 24 = dktJ6_deleteEntry_1 := dk_seg dksJ6_deleteEntry_0 24 rfl rfl
theorem dksJ6_deleteEntry_2 : cJ6_deleteEntry.data.toList.drop 48 = dktJ6_deleteEntry_2 := dk_seg dksJ6_deleteEntry_1 24 rfl rfl
theorem dksJ6_deleteEntry_3 : cJ6_deleteEntry.data.toList.drop 72 = dktJ6_deleteEntry_3 := dk_seg dksJ6_deleteEntry_2 24 rfl rfl
theorem dksJ6_deleteEntry_4 : cJ6_deleteEntry.data.toList.drop 96 = dktJ6_deleteEntry_4 := dk_seg dksJ6_deleteEntry_3 24 rfl rfl
theorem dksJ6_deleteEntry_5 : cJ6_deleteEntry.data.toList.drop 119 = dktJ6_deleteEntry_5 := dk_seg dksJ6_deleteEntry_4 23 rfl rfl
theorem dksJ6_deleteEntry_6 : cJ6_deleteEntry.data.toList.drop 142 = dktJ6_deleteEntry_6 := dk_seg dksJ6_deleteEntry_5 23 rfl rfl
theorem dksJ6_deleteEntry_7 : cJ6_deleteEntry.data.toList.drop 165 = dktJ6_deleteEntry_7 := dk_seg dksJ6_deleteEntry_6 23 rfl rfl
theorem dksJ6_deleteEntry_8 : cJ6_deleteEntry.data.toList.drop 189 = dktJ6_deleteEntry_8 := dk_seg dksJ6_deleteEntry_7 24 rfl rfl
theorem dksJ6_deleteEntry_9 : cJ6_deleteEntry.data.toList.drop 211 = dktJ6_deleteEntry_9 := dk_seg dksJ6_deleteEntry_8 22 rfl rfl
theorem dksJ6_deleteEntry_10 : cJ6_deleteEntry.data.toList.drop 233 = dktJ6_deleteEntry_10 := dk_seg dksJ6_deleteEntry_9 22 rfl rfl
theorem dJ6_deleteEntry_0 : decode cJ6_deleteEntry 0 = .ok (.aload_n 0, 1) := dk_42 (dk_at dksJ6_deleteEntry_0 0 rfl rfl)
theorem dJ6_deleteEntry_1 : decode cJ6_deleteEntry 1 = .ok (.dup, 1) := dk_89 (dk_at dksJ6_deleteEntry_0 1 rfl rfl)
theorem dJ6_deleteEntry_2 : decode cJ6_deleteEntry 2 = .ok (.getfield 13, 3) := dk_180 0 13 (dk_at dksJ6_deleteEntry_0 2 rfl rfl)
theorem dJ6_deleteEntry_5 : decode cJ6_deleteEntry 5 = .ok (.iconst 1, 1) := dk_4 (dk_at dksJ6_deleteEntry_0 5 rfl rfl)
theorem dJ6_deleteEntry_6 : decode cJ6_deleteEntry 6 = .ok (.iadd, 1) := dk_96 (dk_at dksJ6_deleteEntry_0 6 rfl rfl)
theorem dJ6_deleteEntry_7 : decode cJ6_deleteEntry 7 = .ok (.putfield 13, 3) := dk_181 0 13 (dk_at dksJ6_deleteEntry_0 7 rfl rfl)
theorem dJ6_deleteEntry_10 : decode cJ6_deleteEntry 10 = .ok (.aload_n 0, 1) := dk_42 (dk_at dksJ6_deleteEntry_0 10 rfl rfl)
theorem dJ6_deleteEntry_11 : decode cJ6_deleteEntry 11 = .ok (.dup, 1) := dk_89 (dk_at dksJ6_deleteEntry_0 11 rfl rfl)
theorem dJ6_deleteEntry_12 : decode cJ6_deleteEntry 12 = .ok (.getfield 7, 3) := dk_180 0 7 (dk_at dksJ6_deleteEntry_0 12 rfl rfl)
theorem dJ6_deleteEntry_15 : decode cJ6_deleteEntry 15 = .ok (.iconst 1, 1) := dk_4 (dk_at dksJ6_deleteEntry_0 15 rfl rfl)
theorem dJ6_deleteEntry_16 : decode cJ6_deleteEntry 16 = .ok (.isub, 1) := dk_100 (dk_at dksJ6_deleteEntry_0 16 rfl rfl)
theorem dJ6_deleteEntry_17 : decode cJ6_deleteEntry 17 = .ok (.putfield 7, 3) := dk_181 0 7 (dk_at dksJ6_deleteEntry_0 17 rfl rfl)
theorem dJ6_deleteEntry_20 : decode cJ6_deleteEntry 20 = .ok (.aload_n 1, 1) := dk_43 (dk_at dksJ6_deleteEntry_0 20 rfl rfl)
theorem dJ6_deleteEntry_21 : decode cJ6_deleteEntry 21 = .ok (.getfield 111, 3) := dk_180 0 111 (dk_at dksJ6_deleteEntry_0 21 rfl rfl)
theorem dJ6_deleteEntry_24 : decode cJ6_deleteEntry 24 = .ok (.ifnull 33, 3) := dk_198 0 33 (dk_at dksJ6_deleteEntry_1 0 rfl rfl)
theorem dJ6_deleteEntry_27 : decode cJ6_deleteEntry 27 = .ok (.aload_n 1, 1) := dk_43 (dk_at dksJ6_deleteEntry_1 3 rfl rfl)
theorem dJ6_deleteEntry_28 : decode cJ6_deleteEntry 28 = .ok (.getfield 114, 3) := dk_180 0 114 (dk_at dksJ6_deleteEntry_1 4 rfl rfl)
theorem dJ6_deleteEntry_31 : decode cJ6_deleteEntry 31 = .ok (.ifnull 26, 3) := dk_198 0 26 (dk_at dksJ6_deleteEntry_1 7 rfl rfl)
theorem dJ6_deleteEntry_34 : decode cJ6_deleteEntry 34 = .ok (.aload_n 1, 1) := dk_43 (dk_at dksJ6_deleteEntry_1 10 rfl rfl)
theorem dJ6_deleteEntry_35 : decode cJ6_deleteEntry 35 = .ok (.invokestatic 68, 3) := dk_184 0 68 (dk_at dksJ6_deleteEntry_1 11 rfl rfl)
theorem dJ6_deleteEntry_38 : decode cJ6_deleteEntry 38 = .ok (.astore_n 2, 1) := dk_77 (dk_at dksJ6_deleteEntry_1 14 rfl rfl)
theorem dJ6_deleteEntry_39 : decode cJ6_deleteEntry 39 = .ok (.aload_n 1, 1) := dk_43 (dk_at dksJ6_deleteEntry_1 15 rfl rfl)
theorem dJ6_deleteEntry_40 : decode cJ6_deleteEntry 40 = .ok (.aload_n 2, 1) := dk_44 (dk_at dksJ6_deleteEntry_1 16 rfl rfl)
theorem dJ6_deleteEntry_41 : decode cJ6_deleteEntry 41 = .ok (.getfield 105, 3) := dk_180 0 105 (dk_at dksJ6_deleteEntry_1 17 rfl rfl)
theorem dJ6_deleteEntry_44 : decode cJ6_deleteEntry 44 = .ok (.putfield 105, 3) := dk_181 0 105 (dk_at dksJ6_deleteEntry_1 20 rfl rfl)
theorem dJ6_deleteEntry_47 : decode cJ6_deleteEntry 47 = .ok (.aload_n 1, 1) := dk_43 (dk_at dksJ6_deleteEntry_1 23 rfl rfl)
theorem dJ6_deleteEntry_48 : decode cJ6_deleteEntry 48 = .ok (.aload_n 2, 1) := dk_44 (dk_at dksJ6_deleteEntry_2 0 rfl rfl)
theorem dJ6_deleteEntry_49 : decode cJ6_deleteEntry 49 = .ok (.getfield 58, 3) := dk_180 0 58 (dk_at dksJ6_deleteEntry_2 1 rfl rfl)
theorem dJ6_deleteEntry_52 : decode cJ6_deleteEntry 52 = .ok (.putfield 58, 3) := dk_181 0 58 (dk_at dksJ6_deleteEntry_2 4 rfl rfl)
theorem dJ6_deleteEntry_55 : decode cJ6_deleteEntry 55 = .ok (.aload_n 2, 1) := dk_44 (dk_at dksJ6_deleteEntry_2 7 rfl rfl)
theorem dJ6_deleteEntry_56 : decode cJ6_deleteEntry 56 = .ok (.astore_n 1, 1) := dk_76 (dk_at dksJ6_deleteEntry_2 8 rfl rfl)
theorem dJ6_deleteEntry_57 : decode cJ6_deleteEntry 57 = .ok (.aload_n 1, 1) := dk_43 (dk_at dksJ6_deleteEntry_2 9 rfl rfl)
theorem dJ6_deleteEntry_58 : decode cJ6_deleteEntry 58 = .ok (.getfield 111, 3) := dk_180 0 111 (dk_at dksJ6_deleteEntry_2 10 rfl rfl)
theorem dJ6_deleteEntry_61 : decode cJ6_deleteEntry 61 = .ok (.ifnull 10, 3) := dk_198 0 10 (dk_at dksJ6_deleteEntry_2 13 rfl rfl)
theorem dJ6_deleteEntry_64 : decode cJ6_deleteEntry 64 = .ok (.aload_n 1, 1) := dk_43 (dk_at dksJ6_deleteEntry_2 16 rfl rfl)
theorem dJ6_deleteEntry_65 : decode cJ6_deleteEntry 65 = .ok (.getfield 111, 3) := dk_180 0 111 (dk_at dksJ6_deleteEntry_2 17 rfl rfl)
theorem dJ6_deleteEntry_68 : decode cJ6_deleteEntry 68 = .ok (.goto 7, 3) := dk_167 0 7 (dk_at dksJ6_deleteEntry_2 20 rfl rfl)
theorem dJ6_deleteEntry_71 : decode cJ6_deleteEntry 71 = .ok (.aload_n 1, 1) := dk_43 (dk_at dksJ6_deleteEntry_2 23 rfl rfl)
theorem dJ6_deleteEntry_72 : decode cJ6_deleteEntry 72 = .ok (.getfield 114, 3) := dk_180 0 114 (dk_at dksJ6_deleteEntry_3 0 rfl rfl)
theorem dJ6_deleteEntry_75 : decode cJ6_deleteEntry 75 = .ok (.astore_n 2, 1) := dk_77 (dk_at dksJ6_deleteEntry_3 3 rfl rfl)
theorem dJ6_deleteEntry_76 : decode cJ6_deleteEntry 76 = .ok (.aload_n 2, 1) := dk_44 (dk_at dksJ6_deleteEntry_3 4 rfl rfl)
theorem dJ6_deleteEntry_77 : decode cJ6_deleteEntry 77 = .ok (.ifnull 87, 3) := dk_198 0 87 (dk_at dksJ6_deleteEntry_3 5 rfl rfl)
theorem dJ6_deleteEntry_80 : decode cJ6_deleteEntry 80 = .ok (.aload_n 2, 1) := dk_44 (dk_at dksJ6_deleteEntry_3 8 rfl rfl)
theorem dJ6_deleteEntry_81 : decode cJ6_deleteEntry 81 = .ok (.aload_n 1, 1) := dk_43 (dk_at dksJ6_deleteEntry_3 9 rfl rfl)
theorem dJ6_deleteEntry_82 : decode cJ6_deleteEntry 82 = .ok (.getfield 124, 3) := dk_180 0 124 (dk_at dksJ6_deleteEntry_3 10 rfl rfl)
theorem dJ6_deleteEntry_85 : decode cJ6_deleteEntry 85 = .ok (.putfield 124, 3) := dk_181 0 124 (dk_at dksJ6_deleteEntry_3 13 rfl rfl)
theorem dJ6_deleteEntry_88 : decode cJ6_deleteEntry 88 = .ok (.aload_n 1, 1) := dk_43 (dk_at dksJ6_deleteEntry_3 16 rfl rfl)
theorem dJ6_deleteEntry_89 : decode cJ6_deleteEntry 89 = .ok (.getfield 124, 3) := dk_180 0 124 (dk_at dksJ6_deleteEntry_3 17 rfl rfl)
theorem dJ6_deleteEntry_92 : decode cJ6_deleteEntry 92 = .ok (.ifnonnull 11, 3) := dk_199 0 11 (dk_at dksJ6_deleteEntry_3 20 rfl rfl)
theorem dJ6_deleteEntry_95 : decode cJ6_deleteEntry 95 = .ok (.aload_n 0, 1) := dk_42 (dk_at dksJ6_deleteEntry_3 23 rfl rfl)
theorem dJ6_deleteEntry_96 : decode cJ6_deleteEntry 96 = .ok (.aload_n 2, 1) := dk_44 (dk_at dksJ6_deleteEntry_4 0 rfl rfl)
theorem dJ6_deleteEntry_97 : decode cJ6_deleteEntry 97 = .ok (.putfield 101, 3) := dk_181 0 101 (dk_at dksJ6_deleteEntry_4 1 rfl rfl)
theorem dJ6_deleteEntry_100 : decode cJ6_deleteEntry 100 = .ok (.goto 33, 3) := dk_167 0 33 (dk_at dksJ6_deleteEntry_4 4 rfl rfl)
theorem dJ6_deleteEntry_103 : decode cJ6_deleteEntry 103 = .ok (.aload_n 1, 1) := dk_43 (dk_at dksJ6_deleteEntry_4 7 rfl rfl)
theorem dJ6_deleteEntry_104 : decode cJ6_deleteEntry 104 = .ok (.aload_n 1, 1) := dk_43 (dk_at dksJ6_deleteEntry_4 8 rfl rfl)
theorem dJ6_deleteEntry_105 : decode cJ6_deleteEntry 105 = .ok (.getfield 124, 3) := dk_180 0 124 (dk_at dksJ6_deleteEntry_4 9 rfl rfl)
theorem dJ6_deleteEntry_108 : decode cJ6_deleteEntry 108 = .ok (.getfield 111, 3) := dk_180 0 111 (dk_at dksJ6_deleteEntry_4 12 rfl rfl)
theorem dJ6_deleteEntry_111 : decode cJ6_deleteEntry 111 = .ok (.if_acmp .ne 14, 3) := dk_166 0 14 (dk_at dksJ6_deleteEntry_4 15 rfl rfl)
theorem dJ6_deleteEntry_114 : decode cJ6_deleteEntry 114 = .ok (.aload_n 1, 1) := dk_43 (dk_at dksJ6_deleteEntry_4 18 rfl rfl)
theorem dJ6_deleteEntry_115 : decode cJ6_deleteEntry 115 = .ok (.getfield 124, 3) := dk_180 0 124 (dk_at dksJ6_deleteEntry_4 19 rfl rfl)
theorem dJ6_deleteEntry_118 : decode cJ6_deleteEntry 118 = .ok (.aload_n 2, 1) := dk_44 (dk_at dksJ6_deleteEntry_4 22 rfl rfl)
theorem dJ6_deleteEntry_119 : decode cJ6_deleteEntry 119 = .ok (.putfield 111, 3) := dk_181 0 111 (dk_at dksJ6_deleteEntry_5 0 rfl rfl)
theorem dJ6_deleteEntry_122 : decode cJ6_deleteEntry 122 = .ok (.goto 11, 3) := dk_167 0 11 (dk_at dksJ6_deleteEntry_5 3 rfl rfl)
theorem dJ6_deleteEntry_125 : decode cJ6_deleteEntry 125 = .ok (.aload_n 1, 1) := dk_43 (dk_at dksJ6_deleteEntry_5 6 rfl rfl)
theorem dJ6_deleteEntry_126 : decode cJ6_deleteEntry 126 = .ok (.getfield 124, 3) := dk_180 0 124 (dk_at dksJ6_deleteEntry_5 7 rfl rfl)
theorem dJ6_deleteEntry_129 : decode cJ6_deleteEntry 129 = .ok (.aload_n 2, 1) := dk_44 (dk_at dksJ6_deleteEntry_5 10 rfl rfl)
theorem dJ6_deleteEntry_130 : decode cJ6_deleteEntry 130 = .ok (.putfield 114, 3) := dk_181 0 114 (dk_at dksJ6_deleteEntry_5 11 rfl rfl)
theorem dJ6_deleteEntry_133 : decode cJ6_deleteEntry 133 = .ok (.aload_n 1, 1) := dk_43 (dk_at dksJ6_deleteEntry_5 14 rfl rfl)
theorem dJ6_deleteEntry_134 : decode cJ6_deleteEntry 134 = .ok (.aload_n 1, 1) := dk_43 (dk_at dksJ6_deleteEntry_5 15 rfl rfl)
theorem dJ6_deleteEntry_135 : decode cJ6_deleteEntry 135 = .ok (.aload_n 1, 1) := dk_43 (dk_at dksJ6_deleteEntry_5 16 rfl rfl)
theorem dJ6_deleteEntry_136 : decode cJ6_deleteEntry 136 = .ok (.aconst_null, 1) := dk_1 (dk_at dksJ6_deleteEntry_5 17 rfl rfl)
theorem dJ6_deleteEntry_137 : decode cJ6_deleteEntry 137 = .ok (.dup_x1, 1) := dk_90 (dk_at dksJ6_deleteEntry_5 18 rfl rfl)
theorem dJ6_deleteEntry_138 : decode cJ6_deleteEntry 138 = .ok (.putfield 124, 3) := dk_181 0 124 (dk_at dksJ6_deleteEntry_5 19 rfl rfl)
theorem dJ6_deleteEntry_141 : decode cJ6_deleteEntry 141 = .ok (.dup_x1, 1) := dk_90 (dk_at dksJ6_deleteEntry_5 22 rfl rfl)
theorem dJ6_deleteEntry_142 : decode cJ6_deleteEntry 142 = .ok (.putfield 114, 3) := dk_181 0 114 (dk_at dksJ6_deleteEntry_6 0 rfl rfl)
theorem dJ6_deleteEntry_145 : decode cJ6_deleteEntry 145 = .ok (.putfield 111, 3) := dk_181 0 111 (dk_at dksJ6_deleteEntry_6 3 rfl rfl)
theorem dJ6_deleteEntry_148 : decode cJ6_deleteEntry 148 = .ok (.aload_n 1, 1) := dk_43 (dk_at dksJ6_deleteEntry_6 6 rfl rfl)
theorem dJ6_deleteEntry_149 : decode cJ6_deleteEntry 149 = .ok (.getfield 290, 3) := dk_180 1 34 (dk_at dksJ6_deleteEntry_6 7 rfl rfl)
theorem dJ6_deleteEntry_152 : decode cJ6_deleteEntry 152 = .ok (.iconst 1, 1) := dk_4 (dk_at dksJ6_deleteEntry_6 10 rfl rfl)
theorem dJ6_deleteEntry_153 : decode cJ6_deleteEntry 153 = .ok (.if_icmp .ne 92, 3) := dk_160 0 92 (dk_at dksJ6_deleteEntry_6 11 rfl rfl)
theorem dJ6_deleteEntry_156 : decode cJ6_deleteEntry 156 = .ok (.aload_n 0, 1) := dk_42 (dk_at dksJ6_deleteEntry_6 14 rfl rfl)
theorem dJ6_deleteEntry_157 : decode cJ6_deleteEntry 157 = .ok (.aload_n 2, 1) := dk_44 (dk_at dksJ6_deleteEntry_6 15 rfl rfl)
theorem dJ6_deleteEntry_158 : decode cJ6_deleteEntry 158 = .ok (.invokevirtual 317, 3) := dk_182 1 61 (dk_at dksJ6_deleteEntry_6 16 rfl rfl)
theorem dJ6_deleteEntry_161 : decode cJ6_deleteEntry 161 = .ok (.goto 84, 3) := dk_167 0 84 (dk_at dksJ6_deleteEntry_6 19 rfl rfl)
theorem dJ6_deleteEntry_164 : decode cJ6_deleteEntry 164 = .ok (.aload_n 1, 1) := dk_43 (dk_at dksJ6_deleteEntry_6 22 rfl rfl)
theorem dJ6_deleteEntry_165 : decode cJ6_deleteEntry 165 = .ok (.getfield 124, 3) := dk_180 0 124 (dk_at dksJ6_deleteEntry_7 0 rfl rfl)
theorem dJ6_deleteEntry_168 : decode cJ6_deleteEntry 168 = .ok (.ifnonnull 11, 3) := dk_199 0 11 (dk_at dksJ6_deleteEntry_7 3 rfl rfl)
theorem dJ6_deleteEntry_171 : decode cJ6_deleteEntry 171 = .ok (.aload_n 0, 1) := dk_42 (dk_at dksJ6_deleteEntry_7 6 rfl rfl)
theorem dJ6_deleteEntry_172 : decode cJ6_deleteEntry 172 = .ok (.aconst_null, 1) := dk_1 (dk_at dksJ6_deleteEntry_7 7 rfl rfl)
theorem dJ6_deleteEntry_173 : decode cJ6_deleteEntry 173 = .ok (.putfield 101, 3) := dk_181 0 101 (dk_at dksJ6_deleteEntry_7 8 rfl rfl)
theorem dJ6_deleteEntry_176 : decode cJ6_deleteEntry 176 = .ok (.goto 69, 3) := dk_167 0 69 (dk_at dksJ6_deleteEntry_7 11 rfl rfl)
theorem dJ6_deleteEntry_179 : decode cJ6_deleteEntry 179 = .ok (.aload_n 1, 1) := dk_43 (dk_at dksJ6_deleteEntry_7 14 rfl rfl)
theorem dJ6_deleteEntry_180 : decode cJ6_deleteEntry 180 = .ok (.getfield 290, 3) := dk_180 1 34 (dk_at dksJ6_deleteEntry_7 15 rfl rfl)
theorem dJ6_deleteEntry_183 : decode cJ6_deleteEntry 183 = .ok (.iconst 1, 1) := dk_4 (dk_at dksJ6_deleteEntry_7 18 rfl rfl)
theorem dJ6_deleteEntry_184 : decode cJ6_deleteEntry 184 = .ok (.if_icmp .ne 8, 3) := dk_160 0 8 (dk_at dksJ6_deleteEntry_7 19 rfl rfl)
theorem dJ6_deleteEntry_187 : decode cJ6_deleteEntry 187 = .ok (.aload_n 0, 1) := dk_42 (dk_at dksJ6_deleteEntry_7 22 rfl rfl)
theorem dJ6_deleteEntry_188 : decode cJ6_deleteEntry 188 = .ok (.aload_n 1, 1) := dk_43 (dk_at dksJ6_deleteEntry_7 23 rfl rfl)
theorem dJ6_deleteEntry_189 : decode cJ6_deleteEntry 189 = .ok (.invokevirtual 317, 3) := dk_182 1 61 (dk_at dksJ6_deleteEntry_8 0 rfl rfl)
theorem dJ6_deleteEntry_192 : decode cJ6_deleteEntry 192 = .ok (.aload_n 1, 1) := dk_43 (dk_at dksJ6_deleteEntry_8 3 rfl rfl)
theorem dJ6_deleteEntry_193 : decode cJ6_deleteEntry 193 = .ok (.getfield 124, 3) := dk_180 0 124 (dk_at dksJ6_deleteEntry_8 4 rfl rfl)
theorem dJ6_deleteEntry_196 : decode cJ6_deleteEntry 196 = .ok (.ifnull 49, 3) := dk_198 0 49 (dk_at dksJ6_deleteEntry_8 7 rfl rfl)
theorem dJ6_deleteEntry_199 : decode cJ6_deleteEntry 199 = .ok (.aload_n 1, 1) := dk_43 (dk_at dksJ6_deleteEntry_8 10 rfl rfl)
theorem dJ6_deleteEntry_200 : decode cJ6_deleteEntry 200 = .ok (.aload_n 1, 1) := dk_43 (dk_at dksJ6_deleteEntry_8 11 rfl rfl)
theorem dJ6_deleteEntry_201 : decode cJ6_deleteEntry 201 = .ok (.getfield 124, 3) := dk_180 0 124 (dk_at dksJ6_deleteEntry_8 12 rfl rfl)
theorem dJ6_deleteEntry_204 : decode cJ6_deleteEntry 204 = .ok (.getfield 111, 3) := dk_180 0 111 (dk_at dksJ6_deleteEntry_8 15 rfl rfl)
theorem dJ6_deleteEntry_207 : decode cJ6_deleteEntry 207 = .ok (.if_acmp .ne 14, 3) := dk_166 0 14 (dk_at dksJ6_deleteEntry_8 18 rfl rfl)
theorem dJ6_deleteEntry_210 : decode cJ6_deleteEntry 210 = .ok (.aload_n 1, 1) := dk_43 (dk_at dksJ6_deleteEntry_8 21 rfl rfl)
theorem dJ6_deleteEntry_211 : decode cJ6_deleteEntry 211 = .ok (.getfield 124, 3) := dk_180 0 124 (dk_at dksJ6_deleteEntry_9 0 rfl rfl)
theorem dJ6_deleteEntry_214 : decode cJ6_deleteEntry 214 = .ok (.aconst_null, 1) := dk_1 (dk_at dksJ6_deleteEntry_9 3 rfl rfl)
theorem dJ6_deleteEntry_215 : decode cJ6_deleteEntry 215 = .ok (.putfield 111, 3) := dk_181 0 111 (dk_at dksJ6_deleteEntry_9 4 rfl rfl)
theorem dJ6_deleteEntry_218 : decode cJ6_deleteEntry 218 = .ok (.goto 22, 3) := dk_167 0 22 (dk_at dksJ6_deleteEntry_9 7 rfl rfl)
theorem dJ6_deleteEntry_221 : decode cJ6_deleteEntry 221 = .ok (.aload_n 1, 1) := dk_43 (dk_at dksJ6_deleteEntry_9 10 rfl rfl)
theorem dJ6_deleteEntry_222 : decode cJ6_deleteEntry 222 = .ok (.aload_n 1, 1) := dk_43 (dk_at dksJ6_deleteEntry_9 11 rfl rfl)
theorem dJ6_deleteEntry_223 : decode cJ6_deleteEntry 223 = .ok (.getfield 124, 3) := dk_180 0 124 (dk_at dksJ6_deleteEntry_9 12 rfl rfl)
theorem dJ6_deleteEntry_226 : decode cJ6_deleteEntry 226 = .ok (.getfield 114, 3) := dk_180 0 114 (dk_at dksJ6_deleteEntry_9 15 rfl rfl)
theorem dJ6_deleteEntry_229 : decode cJ6_deleteEntry 229 = .ok (.if_acmp .ne 11, 3) := dk_166 0 11 (dk_at dksJ6_deleteEntry_9 18 rfl rfl)
theorem dJ6_deleteEntry_232 : decode cJ6_deleteEntry 232 = .ok (.aload_n 1, 1) := dk_43 (dk_at dksJ6_deleteEntry_9 21 rfl rfl)
theorem dJ6_deleteEntry_233 : decode cJ6_deleteEntry 233 = .ok (.getfield 124, 3) := dk_180 0 124 (dk_at dksJ6_deleteEntry_10 0 rfl rfl)
theorem dJ6_deleteEntry_236 : decode cJ6_deleteEntry 236 = .ok (.aconst_null, 1) := dk_1 (dk_at dksJ6_deleteEntry_10 3 rfl rfl)
theorem dJ6_deleteEntry_237 : decode cJ6_deleteEntry 237 = .ok (.putfield 114, 3) := dk_181 0 114 (dk_at dksJ6_deleteEntry_10 4 rfl rfl)
theorem dJ6_deleteEntry_240 : decode cJ6_deleteEntry 240 = .ok (.aload_n 1, 1) := dk_43 (dk_at dksJ6_deleteEntry_10 7 rfl rfl)
theorem dJ6_deleteEntry_241 : decode cJ6_deleteEntry 241 = .ok (.aconst_null, 1) := dk_1 (dk_at dksJ6_deleteEntry_10 8 rfl rfl)
theorem dJ6_deleteEntry_242 : decode cJ6_deleteEntry 242 = .ok (.putfield 124, 3) := dk_181 0 124 (dk_at dksJ6_deleteEntry_10 9 rfl rfl)
theorem dJ6_deleteEntry_245 : decode cJ6_deleteEntry 245 = .ok (.return_, 1) := dk_177 (dk_at dksJ6_deleteEntry_10 12 rfl rfl)
abbrev cJ6_fixAfterDeletion : ByteArray := prog_63_method_85_code
def yJ6_fixAfterDeletion : MethodName := ⟨RJ6, "fixAfterDeletion", "(Ljava/util/TreeMap$Entry;)V"⟩
def dkwJ6_fixAfterDeletion_14 : List UInt8 := [182, 1, 58, 42, 180, 0, 101, 76, 167, 254, 170, 43, 4, 184, 1, 51, 177]
abbrev dktJ6_fixAfterDeletion_14 : List UInt8 := dkwJ6_fixAfterDeletion_14 ++ []
def dkwJ6_fixAfterDeletion_13 : List UInt8 := [184, 1, 51, 43, 184, 1, 38, 4, 184, 1, 51, 44, 184, 1, 41, 4, 184, 1, 51, 42, 43, 184, 1, 38]
abbrev dktJ6_fixAfterDeletion_13 : List UInt8 := dkwJ6_fixAfterDeletion_13 ++ dktJ6_fixAfterDeletion_14
def dkwJ6_fixAfterDeletion_12 : List UInt8 := [184, 1, 51, 42, 44, 182, 1, 55, 43, 184, 1, 38, 184, 1, 41, 77, 44, 43, 184, 1, 38, 184, 1, 47]
abbrev dktJ6_fixAfterDeletion_12 : List UInt8 := dkwJ6_fixAfterDeletion_12 ++ dktJ6_fixAfterDeletion_13
def dkwJ6_fixAfterDeletion_11 : List UInt8 := [167, 0, 80, 44, 184, 1, 41, 184, 1, 47, 4, 160, 0, 29, 44, 184, 1, 44, 4, 184, 1, 51, 44, 3]
abbrev dktJ6_fixAfterDeletion_11 : List UInt8 := dkwJ6_fixAfterDeletion_11 ++ dktJ6_fixAfterDeletion_12
def dkwJ6_fixAfterDeletion_10 : List UInt8 := [160, 0, 27, 44, 184, 1, 41, 184, 1, 47, 4, 160, 0, 16, 44, 3, 184, 1, 51, 43, 184, 1, 38, 76]
abbrev dktJ6_fixAfterDeletion_10 : List UInt8 := dkwJ6_fixAfterDeletion_10 ++ dktJ6_fixAfterDeletion_11
def dkwJ6_fixAfterDeletion_9 : List UInt8 := [42, 43, 184, 1, 38, 182, 1, 58, 43, 184, 1, 38, 184, 1, 41, 77, 44, 184, 1, 44, 184, 1, 47, 4]
abbrev dktJ6_fixAfterDeletion_9 : List UInt8 := dkwJ6_fixAfterDeletion_9 ++ dktJ6_fixAfterDeletion_10
def dkwJ6_fixAfterDeletion_8 : List UInt8 := [184, 1, 41, 77, 44, 184, 1, 47, 154, 0, 32, 44, 4, 184, 1, 51, 43, 184, 1, 38, 3, 184, 1, 51]
abbrev dktJ6_fixAfterDeletion_8 : List UInt8 := dkwJ6_fixAfterDeletion_8 ++ dktJ6_fixAfterDeletion_9
def dkwJ6_fixAfterDeletion_7 : List UInt8 := [4, 184, 1, 51, 42, 43, 184, 1, 38, 182, 1, 55, 42, 180, 0, 101, 76, 167, 255, 73, 43, 184, 1, 38]
abbrev dktJ6_fixAfterDeletion_7 : List UInt8 := dkwJ6_fixAfterDeletion_7 ++ dktJ6_fixAfterDeletion_8
def dkwJ6_fixAfterDeletion_6 : List UInt8 := [77, 44, 43, 184, 1, 38, 184, 1, 47, 184, 1, 51, 43, 184, 1, 38, 4, 184, 1, 51, 44, 184, 1, 44]
abbrev dktJ6_fixAfterDeletion_6 : List UInt8 := dkwJ6_fixAfterDeletion_6 ++ dktJ6_fixAfterDeletion_7
def dkwJ6_fixAfterDeletion_5 : List UInt8 := [184, 1, 41, 4, 184, 1, 51, 44, 3, 184, 1, 51, 42, 44, 182, 1, 58, 43, 184, 1, 38, 184, 1, 44]
abbrev dktJ6_fixAfterDeletion_5 : List UInt8 := dkwJ6_fixAfterDeletion_5 ++ dktJ6_fixAfterDeletion_6
def dkwJ6_fixAfterDeletion_4 : List UInt8 := [184, 1, 51, 43, 184, 1, 38, 76, 167, 0, 80, 44, 184, 1, 44, 184, 1, 47, 4, 160, 0, 29, 44]
abbrev dktJ6_fixAfterDeletion_4 : List UInt8 := dkwJ6_fixAfterDeletion_4 ++ dktJ6_fixAfterDeletion_5
def dkwJ6_fixAfterDeletion_3 : List UInt8 := [184, 1, 41, 184, 1, 47, 4, 160, 0, 27, 44, 184, 1, 44, 184, 1, 47, 4, 160, 0, 16, 44, 3]
abbrev dktJ6_fixAfterDeletion_3 : List UInt8 := dkwJ6_fixAfterDeletion_3 ++ dktJ6_fixAfterDeletion_4
def dkwJ6_fixAfterDeletion_2 : List UInt8 := [184, 1, 38, 3, 184, 1, 51, 42, 43, 184, 1, 38, 182, 1, 55, 43, 184, 1, 38, 184, 1, 44, 77, 44]
abbrev dktJ6_fixAfterDeletion_2 : List UInt8 := dkwJ6_fixAfterDeletion_2 ++ dktJ6_fixAfterDeletion_3
def dkwJ6_fixAfterDeletion_1 : List UInt8 := [166, 0, 162, 43, 184, 1, 38, 184, 1, 44, 77, 44, 184, 1, 47, 154, 0, 32, 44, 4, 184, 1, 51, 43]
abbrev dktJ6_fixAfterDeletion_1 : List UInt8 := dkwJ6_fixAfterDeletion_1 ++ dktJ6_fixAfterDeletion_2
def dkwJ6_fixAfterDeletion_0 : List UInt8 := [43, 42, 180, 0, 101, 165, 1, 84, 43, 184, 1, 47, 4, 160, 1, 76, 43, 43, 184, 1, 38, 184, 1, 41]
abbrev dktJ6_fixAfterDeletion_0 : List UInt8 := dkwJ6_fixAfterDeletion_0 ++ dktJ6_fixAfterDeletion_1
theorem dksJ6_fixAfterDeletion_0 : cJ6_fixAfterDeletion.data.toList.drop 0 = dktJ6_fixAfterDeletion_0 := by decide +kernel
theorem dksJ6_fixAfterDeletion_1 : cJ6_fixAfterDeletion.data.toList.drop 24 = dktJ6_fixAfterDeletion_1 := dk_seg dksJ6_fixAfterDeletion_0 24 rfl rfl
theorem dksJ6_fixAfterDeletion_2 : cJ6_fixAfterDeletion.data.toList.drop 48 = dktJ6_fixAfterDeletion_2 := dk_seg dksJ6_fixAfterDeletion_1 24 rfl rfl
theorem dksJ6_fixAfterDeletion_3 : cJ6_fixAfterDeletion.data.toList.drop 72 = dktJ6_fixAfterDeletion_3 := dk_seg dksJ6_fixAfterDeletion_2 24 rfl rfl
theorem dksJ6_fixAfterDeletion_4 : cJ6_fixAfterDeletion.data.toList.drop 95 = dktJ6_fixAfterDeletion_4 := dk_seg dksJ6_fixAfterDeletion_3 23 rfl rfl
theorem dksJ6_fixAfterDeletion_5 : cJ6_fixAfterDeletion.data.toList.drop 118 = dktJ6_fixAfterDeletion_5 := dk_seg dksJ6_fixAfterDeletion_4 23 rfl rfl
theorem dksJ6_fixAfterDeletion_6 : cJ6_fixAfterDeletion.data.toList.drop 142 = dktJ6_fixAfterDeletion_6 := dk_seg dksJ6_fixAfterDeletion_5 24 rfl rfl
theorem dksJ6_fixAfterDeletion_7 : cJ6_fixAfterDeletion.data.toList.drop 166 = dktJ6_fixAfterDeletion_7 := dk_seg dksJ6_fixAfterDeletion_6 24 rfl rfl
theorem dksJ6_fixAfterDeletion_8 : cJ6_fixAfterDeletion.data.toList.drop 190 = dktJ6_fixAfterDeletion_8 := dk_seg dksJ6_fixAfterDeletion_7 24 rfl rfl
theorem dksJ6_fixAfterDeletion_9 : cJ6_fixAfterDeletion.data.toList.drop 214 = dktJ6_fixAfterDeletion_9 := dk_seg dksJ6_fixAfterDeletion_8 24 rfl rfl
theorem dksJ6_fixAfterDeletion_10 : cJ6_fixAfterDeletion.data.toList.drop 238 = dktJ6_fixAfterDeletion_10 := dk_seg dksJ6_fixAfterDeletion_9 24 rfl rfl
theorem dksJ6_fixAfterDeletion_11 : cJ6_fixAfterDeletion.data.toList.drop 262 = dktJ6_fixAfterDeletion_11 := dk_seg dksJ6_fixAfterDeletion_10 24 rfl rfl
theorem dksJ6_fixAfterDeletion_12 : cJ6_fixAfterDeletion.data.toList.drop 286 = dktJ6_fixAfterDeletion_12 := dk_seg dksJ6_fixAfterDeletion_11 24 rfl rfl
theorem dksJ6_fixAfterDeletion_13 : cJ6_fixAfterDeletion.data.toList.drop 310 = dktJ6_fixAfterDeletion_13 := dk_seg dksJ6_fixAfterDeletion_12 24 rfl rfl
theorem dksJ6_fixAfterDeletion_14 : cJ6_fixAfterDeletion.data.toList.drop 334 = dktJ6_fixAfterDeletion_14 := dk_seg dksJ6_fixAfterDeletion_13 24 rfl rfl
theorem dJ6_fixAfterDeletion_0 : decode cJ6_fixAfterDeletion 0 = .ok (.aload_n 1, 1) := dk_43 (dk_at dksJ6_fixAfterDeletion_0 0 rfl rfl)
theorem dJ6_fixAfterDeletion_1 : decode cJ6_fixAfterDeletion 1 = .ok (.aload_n 0, 1) := dk_42 (dk_at dksJ6_fixAfterDeletion_0 1 rfl rfl)
theorem dJ6_fixAfterDeletion_2 : decode cJ6_fixAfterDeletion 2 = .ok (.getfield 101, 3) := dk_180 0 101 (dk_at dksJ6_fixAfterDeletion_0 2 rfl rfl)
theorem dJ6_fixAfterDeletion_5 : decode cJ6_fixAfterDeletion 5 = .ok (.if_acmp .eq 340, 3) := dk_165 1 84 (dk_at dksJ6_fixAfterDeletion_0 5 rfl rfl)
theorem dJ6_fixAfterDeletion_8 : decode cJ6_fixAfterDeletion 8 = .ok (.aload_n 1, 1) := dk_43 (dk_at dksJ6_fixAfterDeletion_0 8 rfl rfl)
theorem dJ6_fixAfterDeletion_9 : decode cJ6_fixAfterDeletion 9 = .ok (.invokestatic 303, 3) := dk_184 1 47 (dk_at dksJ6_fixAfterDeletion_0 9 rfl rfl)
theorem dJ6_fixAfterDeletion_12 : decode cJ6_fixAfterDeletion 12 = .ok (.iconst 1, 1) := dk_4 (dk_at dksJ6_fixAfterDeletion_0 12 rfl rfl)
theorem dJ6_fixAfterDeletion_13 : decode cJ6_fixAfterDeletion 13 = .ok (.if_icmp .ne 332, 3) := dk_160 1 76 (dk_at dksJ6_fixAfterDeletion_0 13 rfl rfl)
theorem dJ6_fixAfterDeletion_16 : decode cJ6_fixAfterDeletion 16 = .ok (.aload_n 1, 1) := dk_43 (dk_at dksJ6_fixAfterDeletion_0 16 rfl rfl)
theorem dJ6_fixAfterDeletion_17 : decode cJ6_fixAfterDeletion 17 = .ok (.aload_n 1, 1) := dk_43 (dk_at dksJ6_fixAfterDeletion_0 17 rfl rfl)
theorem dJ6_fixAfterDeletion_18 : decode cJ6_fixAfterDeletion 18 = .ok (.invokestatic 294, 3) := dk_184 1 38 (dk_at dksJ6_fixAfterDeletion_0 18 rfl rfl)
theorem dJ6_fixAfterDeletion_21 : decode cJ6_fixAfterDeletion 21 = .ok (.invokestatic 297, 3) := dk_184 1 41 (dk_at dksJ6_fixAfterDeletion_0 21 rfl rfl)
theorem dJ6_fixAfterDeletion_24 : decode cJ6_fixAfterDeletion 24 = .ok (.if_acmp .ne 162, 3) := dk_166 0 162 (dk_at dksJ6_fixAfterDeletion_1 0 rfl rfl)
theorem dJ6_fixAfterDeletion_27 : decode cJ6_fixAfterDeletion 27 = .ok (.aload_n 1, 1) := dk_43 (dk_at dksJ6_fixAfterDeletion_1 3 rfl rfl)
theorem dJ6_fixAfterDeletion_28 : decode cJ6_fixAfterDeletion 28 = .ok (.invokestatic 294, 3) := dk_184 1 38 (dk_at dksJ6_fixAfterDeletion_1 4 rfl rfl)
theorem dJ6_fixAfterDeletion_31 : decode cJ6_fixAfterDeletion 31 = .ok (.invokestatic 300, 3) := dk_184 1 44 (dk_at dksJ6_fixAfterDeletion_1 7 rfl rfl)
theorem dJ6_fixAfterDeletion_34 : decode cJ6_fixAfterDeletion 34 = .ok (.astore_n 2, 1) := dk_77 (dk_at dksJ6_fixAfterDeletion_1 10 rfl rfl)
theorem dJ6_fixAfterDeletion_35 : decode cJ6_fixAfterDeletion 35 = .ok (.aload_n 2, 1) := dk_44 (dk_at dksJ6_fixAfterDeletion_1 11 rfl rfl)
theorem dJ6_fixAfterDeletion_36 : decode cJ6_fixAfterDeletion 36 = .ok (.invokestatic 303, 3) := dk_184 1 47 (dk_at dksJ6_fixAfterDeletion_1 12 rfl rfl)
theorem dJ6_fixAfterDeletion_39 : decode cJ6_fixAfterDeletion 39 = .ok (.ifCond .ne 32, 3) := dk_154 0 32 (dk_at dksJ6_fixAfterDeletion_1 15 rfl rfl)
theorem dJ6_fixAfterDeletion_42 : decode cJ6_fixAfterDeletion 42 = .ok (.aload_n 2, 1) := dk_44 (dk_at dksJ6_fixAfterDeletion_1 18 rfl rfl)
theorem dJ6_fixAfterDeletion_43 : decode cJ6_fixAfterDeletion 43 = .ok (.iconst 1, 1) := dk_4 (dk_at dksJ6_fixAfterDeletion_1 19 rfl rfl)
theorem dJ6_fixAfterDeletion_44 : decode cJ6_fixAfterDeletion 44 = .ok (.invokestatic 307, 3) := dk_184 1 51 (dk_at dksJ6_fixAfterDeletion_1 20 rfl rfl)
theorem dJ6_fixAfterDeletion_47 : decode cJ6_fixAfterDeletion 47 = .ok (.aload_n 1, 1) := dk_43 (dk_at dksJ6_fixAfterDeletion_1 23 rfl rfl)
theorem dJ6_fixAfterDeletion_48 : decode cJ6_fixAfterDeletion 48 = .ok (.invokestatic 294, 3) := dk_184 1 38 (dk_at dksJ6_fixAfterDeletion_2 0 rfl rfl)
theorem dJ6_fixAfterDeletion_51 : decode cJ6_fixAfterDeletion 51 = .ok (.iconst 0, 1) := dk_3 (dk_at dksJ6_fixAfterDeletion_2 3 rfl rfl)
theorem dJ6_fixAfterDeletion_52 : decode cJ6_fixAfterDeletion 52 = .ok (.invokestatic 307, 3) := dk_184 1 51 (dk_at dksJ6_fixAfterDeletion_2 4 rfl rfl)
theorem dJ6_fixAfterDeletion_55 : decode cJ6_fixAfterDeletion 55 = .ok (.aload_n 0, 1) := dk_42 (dk_at dksJ6_fixAfterDeletion_2 7 rfl rfl)
theorem dJ6_fixAfterDeletion_56 : decode cJ6_fixAfterDeletion 56 = .ok (.aload_n 1, 1) := dk_43 (dk_at dksJ6_fixAfterDeletion_2 8 rfl rfl)
theorem dJ6_fixAfterDeletion_57 : decode cJ6_fixAfterDeletion 57 = .ok (.invokestatic 294, 3) := dk_184 1 38 (dk_at dksJ6_fixAfterDeletion_2 9 rfl rfl)
theorem dJ6_fixAfterDeletion_60 : decode cJ6_fixAfterDeletion 60 = .ok (.invokevirtual 311, 3) := dk_182 1 55 (dk_at dksJ6_fixAfterDeletion_2 12 rfl rfl)
theorem dJ6_fixAfterDeletion_63 : decode cJ6_fixAfterDeletion 63 = .ok (.aload_n 1, 1) := dk_43 (dk_at dksJ6_fixAfterDeletion_2 15 rfl rfl)
theorem dJ6_fixAfterDeletion_64 : decode cJ6_fixAfterDeletion 64 = .ok (.invokestatic 294, 3) := dk_184 1 38 (dk_at dksJ6_fixAfterDeletion_2 16 rfl rfl)
theorem dJ6_fixAfterDeletion_67 : decode cJ6_fixAfterDeletion 67 = .ok (.invokestatic 300, 3) := dk_184 1 44 (dk_at dksJ6_fixAfterDeletion_2 19 rfl rfl)
theorem dJ6_fixAfterDeletion_70 : decode cJ6_fixAfterDeletion 70 = .ok (.astore_n 2, 1) := dk_77 (dk_at dksJ6_fixAfterDeletion_2 22 rfl rfl)
theorem dJ6_fixAfterDeletion_71 : decode cJ6_fixAfterDeletion 71 = .ok (.aload_n 2, 1) := dk_44 (dk_at dksJ6_fixAfterDeletion_2 23 rfl rfl)
theorem dJ6_fixAfterDeletion_72 : decode cJ6_fixAfterDeletion 72 = .ok (.invokestatic 297, 3) := dk_184 1 41 (dk_at dksJ6_fixAfterDeletion_3 0 rfl rfl)
theorem dJ6_fixAfterDeletion_75 : decode cJ6_fixAfterDeletion 75 = .ok (.invokestatic 303, 3) := dk_184 1 47 (dk_at dksJ6_fixAfterDeletion_3 3 rfl rfl)
theorem dJ6_fixAfterDeletion_78 : decode cJ6_fixAfterDeletion 78 = .ok (.iconst 1, 1) := dk_4 (dk_at dksJ6_fixAfterDeletion_3 6 rfl rfl)
theorem dJ6_fixAfterDeletion_79 : decode cJ6_fixAfterDeletion 79 = .ok (.if_icmp .ne 27, 3) := dk_160 0 27 (dk_at dksJ6_fixAfterDeletion_3 7 rfl rfl)
theorem dJ6_fixAfterDeletion_82 : decode cJ6_fixAfterDeletion 82 = .ok (.aload_n 2, 1) := dk_44 (dk_at dksJ6_fixAfterDeletion_3 10 rfl rfl)
theorem dJ6_fixAfterDeletion_83 : decode cJ6_fixAfterDeletion 83 = .ok (.invokestatic 300, 3) := dk_184 1 44 (dk_at dksJ6_fixAfterDeletion_3 11 rfl rfl)
theorem dJ6_fixAfterDeletion_86 : decode cJ6_fixAfterDeletion 86 = .ok (.invokestatic 303, 3) := dk_184 1 47 (dk_at dksJ6_fixAfterDeletion_3 14 rfl rfl)
theorem dJ6_fixAfterDeletion_89 : decode cJ6_fixAfterDeletion 89 = .ok (.iconst 1, 1) := dk_4 (dk_at dksJ6_fixAfterDeletion_3 17 rfl rfl)
theorem dJ6_fixAfterDeletion_90 : decode cJ6_fixAfterDeletion 90 = .ok (.if_icmp .ne 16, 3) := dk_160 0 16 (dk_at dksJ6_fixAfterDeletion_3 18 rfl rfl)
theorem dJ6_fixAfterDeletion_93 : decode cJ6_fixAfterDeletion 93 = .ok (.aload_n 2, 1) := dk_44 (dk_at dksJ6_fixAfterDeletion_3 21 rfl rfl)
theorem dJ6_fixAfterDeletion_94 : decode cJ6_fixAfterDeletion 94 = .ok (.iconst 0, 1) := dk_3 (dk_at dksJ6_fixAfterDeletion_3 22 rfl rfl)
theorem dJ6_fixAfterDeletion_95 : decode cJ6_fixAfterDeletion 95 = .ok (.invokestatic 307, 3) := dk_184 1 51 (dk_at dksJ6_fixAfterDeletion_4 0 rfl rfl)
theorem dJ6_fixAfterDeletion_98 : decode cJ6_fixAfterDeletion 98 = .ok (.aload_n 1, 1) := dk_43 (dk_at dksJ6_fixAfterDeletion_4 3 rfl rfl)
theorem dJ6_fixAfterDeletion_99 : decode cJ6_fixAfterDeletion 99 = .ok (.invokestatic 294, 3) := dk_184 1 38 (dk_at dksJ6_fixAfterDeletion_4 4 rfl rfl)
theorem dJ6_fixAfterDeletion_102 : decode cJ6_fixAfterDeletion 102 = .ok (.astore_n 1, 1) := dk_76 (dk_at dksJ6_fixAfterDeletion_4 7 rfl rfl)
theorem dJ6_fixAfterDeletion_103 : decode cJ6_fixAfterDeletion 103 = .ok (.goto 80, 3) := dk_167 0 80 (dk_at dksJ6_fixAfterDeletion_4 8 rfl rfl)
theorem dJ6_fixAfterDeletion_106 : decode cJ6_fixAfterDeletion 106 = .ok (.aload_n 2, 1) := dk_44 (dk_at dksJ6_fixAfterDeletion_4 11 rfl rfl)
theorem dJ6_fixAfterDeletion_107 : decode cJ6_fixAfterDeletion 107 = .ok (.invokestatic 300, 3) := dk_184 1 44 (dk_at dksJ6_fixAfterDeletion_4 12 rfl rfl)
theorem dJ6_fixAfterDeletion_110 : decode cJ6_fixAfterDeletion 110 = .ok (.invokestatic 303, 3) := dk_184 1 47 (dk_at dksJ6_fixAfterDeletion_4 15 rfl rfl)
theorem dJ6_fixAfterDeletion_113 : decode cJ6_fixAfterDeletion 113 = .ok (.iconst 1, 1) := dk_4 (dk_at dksJ6_fixAfterDeletion_4 18 rfl rfl)
theorem dJ6_fixAfterDeletion_114 : decode cJ6_fixAfterDeletion 114 = .ok (.if_icmp .ne 29, 3) := dk_160 0 29 (dk_at dksJ6_fixAfterDeletion_4 19 rfl rfl)
theorem dJ6_fixAfterDeletion_117 : decode cJ6_fixAfterDeletion 117 = .ok (.aload_n 2, 1) := dk_44 (dk_at dksJ6_fixAfterDeletion_4 22 rfl rfl)
theorem dJ6_fixAfterDeletion_118 : decode cJ6_fixAfterDeletion 118 = .ok (.invokestatic 297, 3) := dk_184 1 41 (dk_at dksJ6_fixAfterDeletion_5 0 rfl rfl)
theorem dJ6_fixAfterDeletion_121 : decode cJ6_fixAfterDeletion 121 = .ok (.iconst 1, 1) := dk_4 (dk_at dksJ6_fixAfterDeletion_5 3 rfl rfl)
theorem dJ6_fixAfterDeletion_122 : decode cJ6_fixAfterDeletion 122 = .ok (.invokestatic 307, 3) := dk_184 1 51 (dk_at dksJ6_fixAfterDeletion_5 4 rfl rfl)
theorem dJ6_fixAfterDeletion_125 : decode cJ6_fixAfterDeletion 125 = .ok (.aload_n 2, 1) := dk_44 (dk_at dksJ6_fixAfterDeletion_5 7 rfl rfl)
theorem dJ6_fixAfterDeletion_126 : decode cJ6_fixAfterDeletion 126 = .ok (.iconst 0, 1) := dk_3 (dk_at dksJ6_fixAfterDeletion_5 8 rfl rfl)
theorem dJ6_fixAfterDeletion_127 : decode cJ6_fixAfterDeletion 127 = .ok (.invokestatic 307, 3) := dk_184 1 51 (dk_at dksJ6_fixAfterDeletion_5 9 rfl rfl)
theorem dJ6_fixAfterDeletion_130 : decode cJ6_fixAfterDeletion 130 = .ok (.aload_n 0, 1) := dk_42 (dk_at dksJ6_fixAfterDeletion_5 12 rfl rfl)
theorem dJ6_fixAfterDeletion_131 : decode cJ6_fixAfterDeletion 131 = .ok (.aload_n 2, 1) := dk_44 (dk_at dksJ6_fixAfterDeletion_5 13 rfl rfl)
theorem dJ6_fixAfterDeletion_132 : decode cJ6_fixAfterDeletion 132 = .ok (.invokevirtual 314, 3) := dk_182 1 58 (dk_at dksJ6_fixAfterDeletion_5 14 rfl rfl)
theorem dJ6_fixAfterDeletion_135 : decode cJ6_fixAfterDeletion 135 = .ok (.aload_n 1, 1) := dk_43 (dk_at dksJ6_fixAfterDeletion_5 17 rfl rfl)
theorem dJ6_fixAfterDeletion_136 : decode cJ6_fixAfterDeletion 136 = .ok (.invokestatic 294, 3) := dk_184 1 38 (dk_at dksJ6_fixAfterDeletion_5 18 rfl rfl)
theorem dJ6_fixAfterDeletion_139 : decode cJ6_fixAfterDeletion 139 = .ok (.invokestatic 300, 3) := dk_184 1 44 (dk_at dksJ6_fixAfterDeletion_5 21 rfl rfl)
theorem dJ6_fixAfterDeletion_142 : decode cJ6_fixAfterDeletion 142 = .ok (.astore_n 2, 1) := dk_77 (dk_at dksJ6_fixAfterDeletion_6 0 rfl rfl)
theorem dJ6_fixAfterDeletion_143 : decode cJ6_fixAfterDeletion 143 = .ok (.aload_n 2, 1) := dk_44 (dk_at dksJ6_fixAfterDeletion_6 1 rfl rfl)
theorem dJ6_fixAfterDeletion_144 : decode cJ6_fixAfterDeletion 144 = .ok (.aload_n 1, 1) := dk_43 (dk_at dksJ6_fixAfterDeletion_6 2 rfl rfl)
theorem dJ6_fixAfterDeletion_145 : decode cJ6_fixAfterDeletion 145 = .ok (.invokestatic 294, 3) := dk_184 1 38 (dk_at dksJ6_fixAfterDeletion_6 3 rfl rfl)
theorem dJ6_fixAfterDeletion_148 : decode cJ6_fixAfterDeletion 148 = .ok (.invokestatic 303, 3) := dk_184 1 47 (dk_at dksJ6_fixAfterDeletion_6 6 rfl rfl)
theorem dJ6_fixAfterDeletion_151 : decode cJ6_fixAfterDeletion 151 = .ok (.invokestatic 307, 3) := dk_184 1 51 (dk_at dksJ6_fixAfterDeletion_6 9 rfl rfl)
theorem dJ6_fixAfterDeletion_154 : decode cJ6_fixAfterDeletion 154 = .ok (.aload_n 1, 1) := dk_43 (dk_at dksJ6_fixAfterDeletion_6 12 rfl rfl)
theorem dJ6_fixAfterDeletion_155 : decode cJ6_fixAfterDeletion 155 = .ok (.invokestatic 294, 3) := dk_184 1 38 (dk_at dksJ6_fixAfterDeletion_6 13 rfl rfl)
theorem dJ6_fixAfterDeletion_158 : decode cJ6_fixAfterDeletion 158 = .ok (.iconst 1, 1) := dk_4 (dk_at dksJ6_fixAfterDeletion_6 16 rfl rfl)
theorem dJ6_fixAfterDeletion_159 : decode cJ6_fixAfterDeletion 159 = .ok (.invokestatic 307, 3) := dk_184 1 51 (dk_at dksJ6_fixAfterDeletion_6 17 rfl rfl)
theorem dJ6_fixAfterDeletion_162 : decode cJ6_fixAfterDeletion 162 = .ok (.aload_n 2, 1) := dk_44 (dk_at dksJ6_fixAfterDeletion_6 20 rfl rfl)
theorem dJ6_fixAfterDeletion_163 : decode cJ6_fixAfterDeletion 163 = .ok (.invokestatic 300, 3) := dk_184 1 44 (dk_at dksJ6_fixAfterDeletion_6 21 rfl rfl)
theorem dJ6_fixAfterDeletion_166 : decode cJ6_fixAfterDeletion 166 = .ok (.iconst 1, 1) := dk_4 (dk_at dksJ6_fixAfterDeletion_7 0 rfl rfl)
theorem dJ6_fixAfterDeletion_167 : decode cJ6_fixAfterDeletion 167 = .ok (.invokestatic 307, 3) := dk_184 1 51 (dk_at dksJ6_fixAfterDeletion_7 1 rfl rfl)
theorem dJ6_fixAfterDeletion_170 : decode cJ6_fixAfterDeletion 170 = .ok (.aload_n 0, 1) := dk_42 (dk_at dksJ6_fixAfterDeletion_7 4 rfl rfl)
theorem dJ6_fixAfterDeletion_171 : decode cJ6_fixAfterDeletion 171 = .ok (.aload_n 1, 1) := dk_43 (dk_at dksJ6_fixAfterDeletion_7 5 rfl rfl)
theorem dJ6_fixAfterDeletion_172 : decode cJ6_fixAfterDeletion 172 = .ok (.invokestatic 294, 3) := dk_184 1 38 (dk_at dksJ6_fixAfterDeletion_7 6 rfl rfl)
theorem dJ6_fixAfterDeletion_175 : decode cJ6_fixAfterDeletion 175 = .ok (.invokevirtual 311, 3) := dk_182 1 55 (dk_at dksJ6_fixAfterDeletion_7 9 rfl rfl)
theorem dJ6_fixAfterDeletion_178 : decode cJ6_fixAfterDeletion 178 = .ok (.aload_n 0, 1) := dk_42 (dk_at dksJ6_fixAfterDeletion_7 12 rfl rfl)
theorem dJ6_fixAfterDeletion_179 : decode cJ6_fixAfterDeletion 179 = .ok (.getfield 101, 3) := dk_180 0 101 (dk_at dksJ6_fixAfterDeletion_7 13 rfl rfl)
theorem dJ6_fixAfterDeletion_182 : decode cJ6_fixAfterDeletion 182 = .ok (.astore_n 1, 1) := dk_76 (dk_at dksJ6_fixAfterDeletion_7 16 rfl rfl)
theorem dJ6_fixAfterDeletion_183 : decode cJ6_fixAfterDeletion 183 = .ok (.goto (-183), 3) := dk_167 255 73 (dk_at dksJ6_fixAfterDeletion_7 17 rfl rfl)
theorem dJ6_fixAfterDeletion_186 : decode cJ6_fixAfterDeletion 186 = .ok (.aload_n 1, 1) := dk_43 (dk_at dksJ6_fixAfterDeletion_7 20 rfl rfl)
theorem dJ6_fixAfterDeletion_187 : decode cJ6_fixAfterDeletion 187 = .ok (.invokestatic 294, 3) := dk_184 1 38 (dk_at dksJ6_fixAfterDeletion_7 21 rfl rfl)
theorem dJ6_fixAfterDeletion_190 : decode cJ6_fixAfterDeletion 190 = .ok (.invokestatic 297, 3) := dk_184 1 41 (dk_at dksJ6_fixAfterDeletion_8 0 rfl rfl)
theorem dJ6_fixAfterDeletion_193 : decode cJ6_fixAfterDeletion 193 = .ok (.astore_n 2, 1) := dk_77 (dk_at dksJ6_fixAfterDeletion_8 3 rfl rfl)
theorem dJ6_fixAfterDeletion_194 : decode cJ6_fixAfterDeletion 194 = .ok (.aload_n 2, 1) := dk_44 (dk_at dksJ6_fixAfterDeletion_8 4 rfl rfl)
theorem dJ6_fixAfterDeletion_195 : decode cJ6_fixAfterDeletion 195 = .ok (.invokestatic 303, 3) := dk_184 1 47 (dk_at dksJ6_fixAfterDeletion_8 5 rfl rfl)
theorem dJ6_fixAfterDeletion_198 : decode cJ6_fixAfterDeletion 198 = .ok (.ifCond .ne 32, 3) := dk_154 0 32 (dk_at dksJ6_fixAfterDeletion_8 8 rfl rfl)
theorem dJ6_fixAfterDeletion_201 : decode cJ6_fixAfterDeletion 201 = .ok (.aload_n 2, 1) := dk_44 (dk_at dksJ6_fixAfterDeletion_8 11 rfl rfl)
theorem dJ6_fixAfterDeletion_202 : decode cJ6_fixAfterDeletion 202 = .ok (.iconst 1, 1) := dk_4 (dk_at dksJ6_fixAfterDeletion_8 12 rfl rfl)
theorem dJ6_fixAfterDeletion_203 : decode cJ6_fixAfterDeletion 203 = .ok (.invokestatic 307, 3) := dk_184 1 51 (dk_at dksJ6_fixAfterDeletion_8 13 rfl rfl)
theorem dJ6_fixAfterDeletion_206 : decode cJ6_fixAfterDeletion 206 = .ok (.aload_n 1, 1) := dk_43 (dk_at dksJ6_fixAfterDeletion_8 16 rfl rfl)
theorem dJ6_fixAfterDeletion_207 : decode cJ6_fixAfterDeletion 207 = .ok (.invokestatic 294, 3) := dk_184 1 38 (dk_at dksJ6_fixAfterDeletion_8 17 rfl rfl)
theorem dJ6_fixAfterDeletion_210 : decode cJ6_fixAfterDeletion 210 = .ok (.iconst 0, 1) := dk_3 (dk_at dksJ6_fixAfterDeletion_8 20 rfl rfl)
theorem dJ6_fixAfterDeletion_211 : decode cJ6_fixAfterDeletion 211 = .ok (.invokestatic 307, 3) := dk_184 1 51 (dk_at dksJ6_fixAfterDeletion_8 21 rfl rfl)
theorem dJ6_fixAfterDeletion_214 : decode cJ6_fixAfterDeletion 214 = .ok (.aload_n 0, 1) := dk_42 (dk_at dksJ6_fixAfterDeletion_9 0 rfl rfl)
theorem dJ6_fixAfterDeletion_215 : decode cJ6_fixAfterDeletion 215 = .ok (.aload_n 1, 1) := dk_43 (dk_at dksJ6_fixAfterDeletion_9 1 rfl rfl)
theorem dJ6_fixAfterDeletion_216 : decode cJ6_fixAfterDeletion 216 = .ok (.invokestatic 294, 3) := dk_184 1 38 (dk_at dksJ6_fixAfterDeletion_9 2 rfl rfl)
theorem dJ6_fixAfterDeletion_219 : decode cJ6_fixAfterDeletion 219 = .ok (.invokevirtual 314, 3) := dk_182 1 58 (dk_at dksJ6_fixAfterDeletion_9 5 rfl rfl)
theorem dJ6_fixAfterDeletion_222 : decode cJ6_fixAfterDeletion 222 = .ok (.aload_n 1, 1) := dk_43 (dk_at dksJ6_fixAfterDeletion_9 8 rfl rfl)
theorem dJ6_fixAfterDeletion_223 : decode cJ6_fixAfterDeletion 223 = .ok (.invokestatic 294, 3) := dk_184 1 38 (dk_at dksJ6_fixAfterDeletion_9 9 rfl rfl)
theorem dJ6_fixAfterDeletion_226 : decode cJ6_fixAfterDeletion 226 = .ok (.invokestatic 297, 3) := dk_184 1 41 (dk_at dksJ6_fixAfterDeletion_9 12 rfl rfl)
theorem dJ6_fixAfterDeletion_229 : decode cJ6_fixAfterDeletion 229 = .ok (.astore_n 2, 1) := dk_77 (dk_at dksJ6_fixAfterDeletion_9 15 rfl rfl)
theorem dJ6_fixAfterDeletion_230 : decode cJ6_fixAfterDeletion 230 = .ok (.aload_n 2, 1) := dk_44 (dk_at dksJ6_fixAfterDeletion_9 16 rfl rfl)
theorem dJ6_fixAfterDeletion_231 : decode cJ6_fixAfterDeletion 231 = .ok (.invokestatic 300, 3) := dk_184 1 44 (dk_at dksJ6_fixAfterDeletion_9 17 rfl rfl)
theorem dJ6_fixAfterDeletion_234 : decode cJ6_fixAfterDeletion 234 = .ok (.invokestatic 303, 3) := dk_184 1 47 (dk_at dksJ6_fixAfterDeletion_9 20 rfl rfl)
theorem dJ6_fixAfterDeletion_237 : decode cJ6_fixAfterDeletion 237 = .ok (.iconst 1, 1) := dk_4 (dk_at dksJ6_fixAfterDeletion_9 23 rfl rfl)
theorem dJ6_fixAfterDeletion_238 : decode cJ6_fixAfterDeletion 238 = .ok (.if_icmp .ne 27, 3) := dk_160 0 27 (dk_at dksJ6_fixAfterDeletion_10 0 rfl rfl)
theorem dJ6_fixAfterDeletion_241 : decode cJ6_fixAfterDeletion 241 = .ok (.aload_n 2, 1) := dk_44 (dk_at dksJ6_fixAfterDeletion_10 3 rfl rfl)
theorem dJ6_fixAfterDeletion_242 : decode cJ6_fixAfterDeletion 242 = .ok (.invokestatic 297, 3) := dk_184 1 41 (dk_at dksJ6_fixAfterDeletion_10 4 rfl rfl)
theorem dJ6_fixAfterDeletion_245 : decode cJ6_fixAfterDeletion 245 = .ok (.invokestatic 303, 3) := dk_184 1 47 (dk_at dksJ6_fixAfterDeletion_10 7 rfl rfl)
theorem dJ6_fixAfterDeletion_248 : decode cJ6_fixAfterDeletion 248 = .ok (.iconst 1, 1) := dk_4 (dk_at dksJ6_fixAfterDeletion_10 10 rfl rfl)
theorem dJ6_fixAfterDeletion_249 : decode cJ6_fixAfterDeletion 249 = .ok (.if_icmp .ne 16, 3) := dk_160 0 16 (dk_at dksJ6_fixAfterDeletion_10 11 rfl rfl)
theorem dJ6_fixAfterDeletion_252 : decode cJ6_fixAfterDeletion 252 = .ok (.aload_n 2, 1) := dk_44 (dk_at dksJ6_fixAfterDeletion_10 14 rfl rfl)
theorem dJ6_fixAfterDeletion_253 : decode cJ6_fixAfterDeletion 253 = .ok (.iconst 0, 1) := dk_3 (dk_at dksJ6_fixAfterDeletion_10 15 rfl rfl)
theorem dJ6_fixAfterDeletion_254 : decode cJ6_fixAfterDeletion 254 = .ok (.invokestatic 307, 3) := dk_184 1 51 (dk_at dksJ6_fixAfterDeletion_10 16 rfl rfl)
theorem dJ6_fixAfterDeletion_257 : decode cJ6_fixAfterDeletion 257 = .ok (.aload_n 1, 1) := dk_43 (dk_at dksJ6_fixAfterDeletion_10 19 rfl rfl)
theorem dJ6_fixAfterDeletion_258 : decode cJ6_fixAfterDeletion 258 = .ok (.invokestatic 294, 3) := dk_184 1 38 (dk_at dksJ6_fixAfterDeletion_10 20 rfl rfl)
theorem dJ6_fixAfterDeletion_261 : decode cJ6_fixAfterDeletion 261 = .ok (.astore_n 1, 1) := dk_76 (dk_at dksJ6_fixAfterDeletion_10 23 rfl rfl)
theorem dJ6_fixAfterDeletion_262 : decode cJ6_fixAfterDeletion 262 = .ok (.goto 80, 3) := dk_167 0 80 (dk_at dksJ6_fixAfterDeletion_11 0 rfl rfl)
theorem dJ6_fixAfterDeletion_265 : decode cJ6_fixAfterDeletion 265 = .ok (.aload_n 2, 1) := dk_44 (dk_at dksJ6_fixAfterDeletion_11 3 rfl rfl)
theorem dJ6_fixAfterDeletion_266 : decode cJ6_fixAfterDeletion 266 = .ok (.invokestatic 297, 3) := dk_184 1 41 (dk_at dksJ6_fixAfterDeletion_11 4 rfl rfl)
theorem dJ6_fixAfterDeletion_269 : decode cJ6_fixAfterDeletion 269 = .ok (.invokestatic 303, 3) := dk_184 1 47 (dk_at dksJ6_fixAfterDeletion_11 7 rfl rfl)
theorem dJ6_fixAfterDeletion_272 : decode cJ6_fixAfterDeletion 272 = .ok (.iconst 1, 1) := dk_4 (dk_at dksJ6_fixAfterDeletion_11 10 rfl rfl)
theorem dJ6_fixAfterDeletion_273 : decode cJ6_fixAfterDeletion 273 = .ok (.if_icmp .ne 29, 3) := dk_160 0 29 (dk_at dksJ6_fixAfterDeletion_11 11 rfl rfl)
theorem dJ6_fixAfterDeletion_276 : decode cJ6_fixAfterDeletion 276 = .ok (.aload_n 2, 1) := dk_44 (dk_at dksJ6_fixAfterDeletion_11 14 rfl rfl)
theorem dJ6_fixAfterDeletion_277 : decode cJ6_fixAfterDeletion 277 = .ok (.invokestatic 300, 3) := dk_184 1 44 (dk_at dksJ6_fixAfterDeletion_11 15 rfl rfl)
theorem dJ6_fixAfterDeletion_280 : decode cJ6_fixAfterDeletion 280 = .ok (.iconst 1, 1) := dk_4 (dk_at dksJ6_fixAfterDeletion_11 18 rfl rfl)
theorem dJ6_fixAfterDeletion_281 : decode cJ6_fixAfterDeletion 281 = .ok (.invokestatic 307, 3) := dk_184 1 51 (dk_at dksJ6_fixAfterDeletion_11 19 rfl rfl)
theorem dJ6_fixAfterDeletion_284 : decode cJ6_fixAfterDeletion 284 = .ok (.aload_n 2, 1) := dk_44 (dk_at dksJ6_fixAfterDeletion_11 22 rfl rfl)
theorem dJ6_fixAfterDeletion_285 : decode cJ6_fixAfterDeletion 285 = .ok (.iconst 0, 1) := dk_3 (dk_at dksJ6_fixAfterDeletion_11 23 rfl rfl)
theorem dJ6_fixAfterDeletion_286 : decode cJ6_fixAfterDeletion 286 = .ok (.invokestatic 307, 3) := dk_184 1 51 (dk_at dksJ6_fixAfterDeletion_12 0 rfl rfl)
theorem dJ6_fixAfterDeletion_289 : decode cJ6_fixAfterDeletion 289 = .ok (.aload_n 0, 1) := dk_42 (dk_at dksJ6_fixAfterDeletion_12 3 rfl rfl)
theorem dJ6_fixAfterDeletion_290 : decode cJ6_fixAfterDeletion 290 = .ok (.aload_n 2, 1) := dk_44 (dk_at dksJ6_fixAfterDeletion_12 4 rfl rfl)
theorem dJ6_fixAfterDeletion_291 : decode cJ6_fixAfterDeletion 291 = .ok (.invokevirtual 311, 3) := dk_182 1 55 (dk_at dksJ6_fixAfterDeletion_12 5 rfl rfl)
theorem dJ6_fixAfterDeletion_294 : decode cJ6_fixAfterDeletion 294 = .ok (.aload_n 1, 1) := dk_43 (dk_at dksJ6_fixAfterDeletion_12 8 rfl rfl)
theorem dJ6_fixAfterDeletion_295 : decode cJ6_fixAfterDeletion 295 = .ok (.invokestatic 294, 3) := dk_184 1 38 (dk_at dksJ6_fixAfterDeletion_12 9 rfl rfl)
theorem dJ6_fixAfterDeletion_298 : decode cJ6_fixAfterDeletion 298 = .ok (.invokestatic 297, 3) := dk_184 1 41 (dk_at dksJ6_fixAfterDeletion_12 12 rfl rfl)
theorem dJ6_fixAfterDeletion_301 : decode cJ6_fixAfterDeletion 301 = .ok (.astore_n 2, 1) := dk_77 (dk_at dksJ6_fixAfterDeletion_12 15 rfl rfl)
theorem dJ6_fixAfterDeletion_302 : decode cJ6_fixAfterDeletion 302 = .ok (.aload_n 2, 1) := dk_44 (dk_at dksJ6_fixAfterDeletion_12 16 rfl rfl)
theorem dJ6_fixAfterDeletion_303 : decode cJ6_fixAfterDeletion 303 = .ok (.aload_n 1, 1) := dk_43 (dk_at dksJ6_fixAfterDeletion_12 17 rfl rfl)
theorem dJ6_fixAfterDeletion_304 : decode cJ6_fixAfterDeletion 304 = .ok (.invokestatic 294, 3) := dk_184 1 38 (dk_at dksJ6_fixAfterDeletion_12 18 rfl rfl)
theorem dJ6_fixAfterDeletion_307 : decode cJ6_fixAfterDeletion 307 = .ok (.invokestatic 303, 3) := dk_184 1 47 (dk_at dksJ6_fixAfterDeletion_12 21 rfl rfl)
theorem dJ6_fixAfterDeletion_310 : decode cJ6_fixAfterDeletion 310 = .ok (.invokestatic 307, 3) := dk_184 1 51 (dk_at dksJ6_fixAfterDeletion_13 0 rfl rfl)
theorem dJ6_fixAfterDeletion_313 : decode cJ6_fixAfterDeletion 313 = .ok (.aload_n 1, 1) := dk_43 (dk_at dksJ6_fixAfterDeletion_13 3 rfl rfl)
theorem dJ6_fixAfterDeletion_314 : decode cJ6_fixAfterDeletion 314 = .ok (.invokestatic 294, 3) := dk_184 1 38 (dk_at dksJ6_fixAfterDeletion_13 4 rfl rfl)
theorem dJ6_fixAfterDeletion_317 : decode cJ6_fixAfterDeletion 317 = .ok (.iconst 1, 1) := dk_4 (dk_at dksJ6_fixAfterDeletion_13 7 rfl rfl)
theorem dJ6_fixAfterDeletion_318 : decode cJ6_fixAfterDeletion 318 = .ok (.invokestatic 307, 3) := dk_184 1 51 (dk_at dksJ6_fixAfterDeletion_13 8 rfl rfl)
theorem dJ6_fixAfterDeletion_321 : decode cJ6_fixAfterDeletion 321 = .ok (.aload_n 2, 1) := dk_44 (dk_at dksJ6_fixAfterDeletion_13 11 rfl rfl)
theorem dJ6_fixAfterDeletion_322 : decode cJ6_fixAfterDeletion 322 = .ok (.invokestatic 297, 3) := dk_184 1 41 (dk_at dksJ6_fixAfterDeletion_13 12 rfl rfl)
theorem dJ6_fixAfterDeletion_325 : decode cJ6_fixAfterDeletion 325 = .ok (.iconst 1, 1) := dk_4 (dk_at dksJ6_fixAfterDeletion_13 15 rfl rfl)
theorem dJ6_fixAfterDeletion_326 : decode cJ6_fixAfterDeletion 326 = .ok (.invokestatic 307, 3) := dk_184 1 51 (dk_at dksJ6_fixAfterDeletion_13 16 rfl rfl)
theorem dJ6_fixAfterDeletion_329 : decode cJ6_fixAfterDeletion 329 = .ok (.aload_n 0, 1) := dk_42 (dk_at dksJ6_fixAfterDeletion_13 19 rfl rfl)
theorem dJ6_fixAfterDeletion_330 : decode cJ6_fixAfterDeletion 330 = .ok (.aload_n 1, 1) := dk_43 (dk_at dksJ6_fixAfterDeletion_13 20 rfl rfl)
theorem dJ6_fixAfterDeletion_331 : decode cJ6_fixAfterDeletion 331 = .ok (.invokestatic 294, 3) := dk_184 1 38 (dk_at dksJ6_fixAfterDeletion_13 21 rfl rfl)
theorem dJ6_fixAfterDeletion_334 : decode cJ6_fixAfterDeletion 334 = .ok (.invokevirtual 314, 3) := dk_182 1 58 (dk_at dksJ6_fixAfterDeletion_14 0 rfl rfl)
theorem dJ6_fixAfterDeletion_337 : decode cJ6_fixAfterDeletion 337 = .ok (.aload_n 0, 1) := dk_42 (dk_at dksJ6_fixAfterDeletion_14 3 rfl rfl)
theorem dJ6_fixAfterDeletion_338 : decode cJ6_fixAfterDeletion 338 = .ok (.getfield 101, 3) := dk_180 0 101 (dk_at dksJ6_fixAfterDeletion_14 4 rfl rfl)
theorem dJ6_fixAfterDeletion_341 : decode cJ6_fixAfterDeletion 341 = .ok (.astore_n 1, 1) := dk_76 (dk_at dksJ6_fixAfterDeletion_14 7 rfl rfl)
theorem dJ6_fixAfterDeletion_342 : decode cJ6_fixAfterDeletion 342 = .ok (.goto (-342), 3) := dk_167 254 170 (dk_at dksJ6_fixAfterDeletion_14 8 rfl rfl)
theorem dJ6_fixAfterDeletion_345 : decode cJ6_fixAfterDeletion 345 = .ok (.aload_n 1, 1) := dk_43 (dk_at dksJ6_fixAfterDeletion_14 11 rfl rfl)
theorem dJ6_fixAfterDeletion_346 : decode cJ6_fixAfterDeletion 346 = .ok (.iconst 1, 1) := dk_4 (dk_at dksJ6_fixAfterDeletion_14 12 rfl rfl)
theorem dJ6_fixAfterDeletion_347 : decode cJ6_fixAfterDeletion 347 = .ok (.invokestatic 307, 3) := dk_184 1 51 (dk_at dksJ6_fixAfterDeletion_14 13 rfl rfl)
theorem dJ6_fixAfterDeletion_350 : decode cJ6_fixAfterDeletion 350 = .ok (.return_, 1) := dk_177 (dk_at dksJ6_fixAfterDeletion_14 16 rfl rfl)
abbrev cJ6_containsKey : ByteArray := prog_63_method_6_code
def yJ6_containsKey : MethodName := ⟨RJ6, "containsKey", "(Ljava/lang/Object;)Z"⟩
def dkwJ6_containsKey_0 : List UInt8 := [42, 43, 182, 0, 50, 198, 0, 7, 4, 167, 0, 4, 3, 172]
abbrev dktJ6_containsKey_0 : List UInt8 := dkwJ6_containsKey_0 ++ []
theorem dksJ6_containsKey_0 : cJ6_containsKey.data.toList.drop 0 = dktJ6_containsKey_0 := by decide +kernel
theorem dJ6_containsKey_0 : decode cJ6_containsKey 0 = .ok (.aload_n 0, 1) := dk_42 (dk_at dksJ6_containsKey_0 0 rfl rfl)
theorem dJ6_containsKey_1 : decode cJ6_containsKey 1 = .ok (.aload_n 1, 1) := dk_43 (dk_at dksJ6_containsKey_0 1 rfl rfl)
theorem dJ6_containsKey_2 : decode cJ6_containsKey 2 = .ok (.invokevirtual 50, 3) := dk_182 0 50 (dk_at dksJ6_containsKey_0 2 rfl rfl)
theorem dJ6_containsKey_5 : decode cJ6_containsKey 5 = .ok (.ifnull 7, 3) := dk_198 0 7 (dk_at dksJ6_containsKey_0 5 rfl rfl)
theorem dJ6_containsKey_8 : decode cJ6_containsKey 8 = .ok (.iconst 1, 1) := dk_4 (dk_at dksJ6_containsKey_0 8 rfl rfl)
theorem dJ6_containsKey_9 : decode cJ6_containsKey 9 = .ok (.goto 4, 3) := dk_167 0 4 (dk_at dksJ6_containsKey_0 9 rfl rfl)
theorem dJ6_containsKey_12 : decode cJ6_containsKey 12 = .ok (.iconst 0, 1) := dk_3 (dk_at dksJ6_containsKey_0 12 rfl rfl)
theorem dJ6_containsKey_13 : decode cJ6_containsKey 13 = .ok (.ireturn, 1) := dk_172 (dk_at dksJ6_containsKey_0 13 rfl rfl)
theorem q48 : (Jvm.Cond.initialized "java/util/TreeMap") ∈ lw_all := lw_g (lw_at lw_m1 8 rfl) rfl
theorem q128 : (Jvm.Cond.instantiable "java/util/TreeMap" (9 : Nat)) ∈ lw_all := lw_g (lw_at lw_m1 88 rfl) rfl
theorem q130 : (Jvm.Cond.instanceMethod ({ cls := "java/util/TreeMap", name := "<init>", desc := "()V" } : Jvm.MethodName)) ∈ lw_all := lw_g (lw_at lw_m1 90 rfl) rfl
theorem q131 : (Jvm.Cond.code ({ cls := "java/util/TreeMap", name := "<init>", desc := "()V" } : Jvm.MethodName) prog_63_method_1_code (1 : Nat) (Option.none : Option Jvm.ClassFile.FieldType)) ∈ lw_all := lw_g (lw_at lw_m1 91 rfl) rfl
theorem q132 : (Jvm.Cond.methodLink "java/util/TreeMap" (1 : Nat) ({ cls := "java/util/AbstractMap", name := "<init>", desc := "()V" } : Jvm.MethodName)) ∈ lw_all := lw_g (lw_at lw_m1 92 rfl) rfl
theorem q136 : (Jvm.Cond.fieldLink "java/util/TreeMap" (16 : Nat) "java/util/TreeMap" "comparator" "Ljava/util/Comparator;") ∈ lw_all := lw_g (lw_at lw_m1 96 rfl) rfl
theorem q137 : (Jvm.Cond.fieldLink "java/util/TreeMap" (101 : Nat) "java/util/TreeMap" "root" "Ljava/util/TreeMap$Entry;") ∈ lw_all := lw_g (lw_at lw_m1 97 rfl) rfl
theorem q138 : (Jvm.Cond.fieldLink "java/util/TreeMap" (7 : Nat) "java/util/TreeMap" "size" "I") ∈ lw_all := lw_g (lw_at lw_m1 98 rfl) rfl
theorem q139 : (Jvm.Cond.fieldLink "java/util/TreeMap" (13 : Nat) "java/util/TreeMap" "modCount" "I") ∈ lw_all := lw_g (lw_at lw_m1 99 rfl) rfl
theorem q141 : (Jvm.Cond.fieldLink "java/util/TreeMap" (191 : Nat) "java/util/TreeMap" "navigableKeySet" "Ljava/util/TreeMap$KeySet;") ∈ lw_all := lw_g (lw_at lw_m1 101 rfl) rfl
theorem q142 : (Jvm.Cond.laysFinal "java/util/TreeMap" "java/util/TreeMap" "comparator" "Ljava/util/Comparator;") ∈ lw_all := lw_g (lw_at lw_m1 102 rfl) rfl
theorem q143 : (Jvm.Cond.soleField "java/util/TreeMap" "comparator") ∈ lw_all := lw_g (lw_at lw_m1 103 rfl) rfl
theorem q144 : (Jvm.Cond.lays "java/util/TreeMap" "java/util/TreeMap" "root" "Ljava/util/TreeMap$Entry;") ∈ lw_all := lw_g (lw_at lw_m1 104 rfl) rfl
theorem q145 : (Jvm.Cond.soleField "java/util/TreeMap" "root") ∈ lw_all := lw_g (lw_at lw_m1 105 rfl) rfl
theorem q146 : (Jvm.Cond.lays "java/util/TreeMap" "java/util/TreeMap" "size" "I") ∈ lw_all := lw_g (lw_at lw_m1 106 rfl) rfl
theorem q147 : (Jvm.Cond.soleField "java/util/TreeMap" "size") ∈ lw_all := lw_g (lw_at lw_m1 107 rfl) rfl
theorem q148 : (Jvm.Cond.lays "java/util/TreeMap" "java/util/TreeMap" "modCount" "I") ∈ lw_all := lw_g (lw_at lw_m1 108 rfl) rfl
theorem q149 : (Jvm.Cond.soleField "java/util/TreeMap" "modCount") ∈ lw_all := lw_g (lw_at lw_m1 109 rfl) rfl
theorem q150 : (Jvm.Cond.lays "java/util/TreeMap" "java/util/TreeMap" "entrySet" "Ljava/util/TreeMap$EntrySet;") ∈ lw_all := lw_g (lw_at lw_m1 110 rfl) rfl
theorem q151 : (Jvm.Cond.soleField "java/util/TreeMap" "entrySet") ∈ lw_all := lw_g (lw_at lw_m1 111 rfl) rfl
theorem q152 : (Jvm.Cond.lays "java/util/TreeMap" "java/util/TreeMap" "navigableKeySet" "Ljava/util/TreeMap$KeySet;") ∈ lw_all := lw_g (lw_at lw_m1 112 rfl) rfl
theorem q153 : (Jvm.Cond.soleField "java/util/TreeMap" "navigableKeySet") ∈ lw_all := lw_g (lw_at lw_m1 113 rfl) rfl
theorem q154 : (Jvm.Cond.lays "java/util/TreeMap" "java/util/TreeMap" "descendingMap" "Ljava/util/NavigableMap;") ∈ lw_all := lw_g (lw_at lw_m1 114 rfl) rfl
theorem q155 : (Jvm.Cond.soleField "java/util/TreeMap" "descendingMap") ∈ lw_all := lw_g (lw_at lw_m1 115 rfl) rfl
theorem q156 : (Jvm.Cond.lays "java/util/TreeMap" "java/util/AbstractMap" "keySet" "Ljava/util/Set;") ∈ lw_all := lw_g (lw_at lw_m1 116 rfl) rfl
theorem q158 : (Jvm.Cond.lays "java/util/TreeMap" "java/util/AbstractMap" "values" "Ljava/util/Collection;") ∈ lw_all := lw_g (lw_at lw_m1 118 rfl) rfl
theorem q160 : (Jvm.Cond.superclass "java/util/TreeMap" "java/util/AbstractMap") ∈ lw_all := lw_g (lw_at lw_m1 120 rfl) rfl
theorem q228 : (Jvm.Cond.castable "java/util/TreeMap" "java/util/NavigableMap") ∈ lw_tbl := lw_at lw_m1 188 rfl
theorem q229 : (Jvm.Cond.selects "java/util/TreeMap" ({ cls := "java/util/Map", name := "size", desc := "()I" } : Jvm.MethodName) ({ cls := "java/util/TreeMap", name := "size", desc := "()I" } : Jvm.MethodName)) ∈ lw_all := lw_g (lw_at lw_m1 189 rfl) rfl
theorem q230 : (Jvm.Cond.unhidden "java/util/TreeMap" "size" "()I") ∈ lw_tbl := lw_at lw_m1 190 rfl
theorem q231 : (Jvm.Cond.instanceMethod ({ cls := "java/util/TreeMap", name := "size", desc := "()I" } : Jvm.MethodName)) ∈ lw_all := lw_g (lw_at lw_m1 191 rfl) rfl
theorem q232 : (Jvm.Cond.publicMethod ({ cls := "java/util/TreeMap", name := "size", desc := "()I" } : Jvm.MethodName)) ∈ lw_tbl := lw_at lw_m1 192 rfl
theorem q233 : (Jvm.Cond.code ({ cls := "java/util/TreeMap", name := "size", desc := "()I" } : Jvm.MethodName) prog_63_method_5_code (1 : Nat) (Option.some Jvm.ClassFile.FieldType.int)) ∈ lw_all := lw_g (lw_at lw_m1 193 rfl) rfl
theorem q416 : (Jvm.Cond.selects "java/util/TreeMap" ({ cls := "java/lang/Object", name := "getClass", desc := "()Ljava/lang/Class;" } : Jvm.MethodName) ({ cls := "java/lang/Object", name := "getClass", desc := "()Ljava/lang/Class;" } : Jvm.MethodName)) ∈ lw_all := lw_g (lw_at lw_m2 136 rfl) rfl
theorem q621 : (Jvm.Cond.static ({ cls := "java/util/TreeMap", name := "successor", desc := "(Ljava/util/TreeMap$Entry;)Ljava/util/TreeMap$Entry;" } : Jvm.MethodName)) ∈ lw_all := lw_g (lw_at lw_m3 101 rfl) rfl
theorem q622 : (Jvm.Cond.code ({ cls := "java/util/TreeMap", name := "successor", desc := "(Ljava/util/TreeMap$Entry;)Ljava/util/TreeMap$Entry;" } : Jvm.MethodName) prog_63_method_74_code (3 : Nat) (Option.some (Jvm.ClassFile.FieldType.object "java/util/TreeMap$Entry"))) ∈ lw_all := lw_g (lw_at lw_m3 102 rfl) rfl
theorem q919 : (Jvm.Cond.selects "java/util/TreeMap" ({ cls := "java/util/Map", name := "put", desc := "(Ljava/lang/Object;Ljava/lang/Object;)Ljava/lang/Object;" } : Jvm.MethodName) ({ cls := "java/util/TreeMap", name := "put", desc := "(Ljava/lang/Object;Ljava/lang/Object;)Ljava/lang/Object;" } : Jvm.MethodName)) ∈ lw_all := lw_g (lw_at lw_m4 159 rfl) rfl
theorem q920 : (Jvm.Cond.unhidden "java/util/TreeMap" "put" "(Ljava/lang/Object;Ljava/lang/Object;)Ljava/lang/Object;") ∈ lw_tbl := lw_at lw_m4 160 rfl
theorem q921 : (Jvm.Cond.instanceMethod ({ cls := "java/util/TreeMap", name := "put", desc := "(Ljava/lang/Object;Ljava/lang/Object;)Ljava/lang/Object;" } : Jvm.MethodName)) ∈ lw_all := lw_g (lw_at lw_m4 161 rfl) rfl
theorem q922 : (Jvm.Cond.publicMethod ({ cls := "java/util/TreeMap", name := "put", desc := "(Ljava/lang/Object;Ljava/lang/Object;)Ljava/lang/Object;" } : Jvm.MethodName)) ∈ lw_tbl := lw_at lw_m4 162 rfl
theorem q923 : (Jvm.Cond.code ({ cls := "java/util/TreeMap", name := "put", desc := "(Ljava/lang/Object;Ljava/lang/Object;)Ljava/lang/Object;" } : Jvm.MethodName) prog_63_method_21_code (3 : Nat) (Option.some (Jvm.ClassFile.FieldType.object "java/lang/Object"))) ∈ lw_all := lw_g (lw_at lw_m4 163 rfl) rfl
theorem q924 : (Jvm.Cond.methodLink "java/util/TreeMap" (127 : Nat) ({ cls := "java/util/TreeMap", name := "put", desc := "(Ljava/lang/Object;Ljava/lang/Object;Z)Ljava/lang/Object;" } : Jvm.MethodName)) ∈ lw_all := lw_g (lw_at lw_m4 164 rfl) rfl
theorem q925 : (Jvm.Cond.privateMethod ({ cls := "java/util/TreeMap", name := "put", desc := "(Ljava/lang/Object;Ljava/lang/Object;Z)Ljava/lang/Object;" } : Jvm.MethodName)) ∈ lw_tbl := lw_at lw_m4 165 rfl
theorem q926 : (Jvm.Cond.instanceMethod ({ cls := "java/util/TreeMap", name := "put", desc := "(Ljava/lang/Object;Ljava/lang/Object;Z)Ljava/lang/Object;" } : Jvm.MethodName)) ∈ lw_all := lw_g (lw_at lw_m4 166 rfl) rfl
theorem q927 : (Jvm.Cond.code ({ cls := "java/util/TreeMap", name := "put", desc := "(Ljava/lang/Object;Ljava/lang/Object;Z)Ljava/lang/Object;" } : Jvm.MethodName) prog_63_method_31_code (10 : Nat) (Option.some (Jvm.ClassFile.FieldType.object "java/lang/Object"))) ∈ lw_all := lw_g (lw_at lw_m4 167 rfl) rfl
theorem q928 : (Jvm.Cond.methodLink "java/util/TreeMap" (135 : Nat) ({ cls := "java/util/TreeMap", name := "addEntryToEmptyMap", desc := "(Ljava/lang/Object;Ljava/lang/Object;)V" } : Jvm.MethodName)) ∈ lw_all := lw_g (lw_at lw_m4 168 rfl) rfl
theorem q929 : (Jvm.Cond.privateMethod ({ cls := "java/util/TreeMap", name := "addEntryToEmptyMap", desc := "(Ljava/lang/Object;Ljava/lang/Object;)V" } : Jvm.MethodName)) ∈ lw_tbl := lw_at lw_m4 169 rfl
theorem q930 : (Jvm.Cond.instanceMethod ({ cls := "java/util/TreeMap", name := "addEntryToEmptyMap", desc := "(Ljava/lang/Object;Ljava/lang/Object;)V" } : Jvm.MethodName)) ∈ lw_all := lw_g (lw_at lw_m4 170 rfl) rfl
theorem q931 : (Jvm.Cond.code ({ cls := "java/util/TreeMap", name := "addEntryToEmptyMap", desc := "(Ljava/lang/Object;Ljava/lang/Object;)V" } : Jvm.MethodName) prog_63_method_30_code (3 : Nat) (Option.none : Option Jvm.ClassFile.FieldType)) ∈ lw_all := lw_g (lw_at lw_m4 171 rfl) rfl
theorem q932 : (Jvm.Cond.methodLink "java/util/TreeMap" (123 : Nat) ({ cls := "java/util/TreeMap", name := "compare", desc := "(Ljava/lang/Object;Ljava/lang/Object;)I" } : Jvm.MethodName)) ∈ lw_all := lw_g (lw_at lw_m4 172 rfl) rfl
theorem q933 : (Jvm.Cond.instanceMethod ({ cls := "java/util/TreeMap", name := "compare", desc := "(Ljava/lang/Object;Ljava/lang/Object;)I" } : Jvm.MethodName)) ∈ lw_all := lw_g (lw_at lw_m4 173 rfl) rfl
theorem q934 : (Jvm.Cond.selects "java/util/TreeMap" ({ cls := "java/util/TreeMap", name := "compare", desc := "(Ljava/lang/Object;Ljava/lang/Object;)I" } : Jvm.MethodName) ({ cls := "java/util/TreeMap", name := "compare", desc := "(Ljava/lang/Object;Ljava/lang/Object;)I" } : Jvm.MethodName)) ∈ lw_all := lw_g (lw_at lw_m4 174 rfl) rfl
theorem q935 : (Jvm.Cond.code ({ cls := "java/util/TreeMap", name := "compare", desc := "(Ljava/lang/Object;Ljava/lang/Object;)I" } : Jvm.MethodName) prog_63_method_67_code (3 : Nat) (Option.some Jvm.ClassFile.FieldType.int)) ∈ lw_all := lw_g (lw_at lw_m4 175 rfl) rfl
theorem q936 : (Jvm.Cond.classLink "java/util/TreeMap" (99 : Nat) "java/lang/Comparable") ∈ lw_all := lw_g (lw_at lw_m4 176 rfl) rfl
theorem q937 : (Jvm.Cond.interfaceEntry "java/util/TreeMap" (107 : Nat)) ∈ lw_tbl := lw_at lw_m4 177 rfl
theorem q938 : (Jvm.Cond.methodLink "java/util/TreeMap" (107 : Nat) ({ cls := "java/lang/Comparable", name := "compareTo", desc := "(Ljava/lang/Object;)I" } : Jvm.MethodName)) ∈ lw_all := lw_g (lw_at lw_m4 178 rfl) rfl
theorem q999 : (Jvm.Cond.interfaceEntry "java/util/TreeMap" (117 : Nat)) ∈ lw_tbl := lw_at lw_m4 239 rfl
theorem q1000 : (Jvm.Cond.methodLink "java/util/TreeMap" (117 : Nat) ({ cls := "java/util/Comparator", name := "compare", desc := "(Ljava/lang/Object;Ljava/lang/Object;)I" } : Jvm.MethodName)) ∈ lw_all := lw_g (lw_at lw_m5 0 rfl) rfl
theorem q1003 : (Jvm.Cond.classLink "java/util/TreeMap" (59 : Nat) "java/util/TreeMap$Entry") ∈ lw_all := lw_g (lw_at lw_m5 3 rfl) rfl
theorem q1005 : (Jvm.Cond.methodLink "java/util/TreeMap" (167 : Nat) ({ cls := "java/util/TreeMap$Entry", name := "<init>", desc := "(Ljava/lang/Object;Ljava/lang/Object;Ljava/util/TreeMap$Entry;)V" } : Jvm.MethodName)) ∈ lw_all := lw_g (lw_at lw_m5 5 rfl) rfl
theorem q1011 : (Jvm.Cond.fieldLink "java/util/TreeMap" (105 : Nat) "java/util/TreeMap$Entry" "key" "Ljava/lang/Object;") ∈ lw_all := lw_g (lw_at lw_m5 11 rfl) rfl
theorem q1013 : (Jvm.Cond.fieldLink "java/util/TreeMap" (58 : Nat) "java/util/TreeMap$Entry" "value" "Ljava/lang/Object;") ∈ lw_all := lw_g (lw_at lw_m5 13 rfl) rfl
theorem q1015 : (Jvm.Cond.fieldLink "java/util/TreeMap" (111 : Nat) "java/util/TreeMap$Entry" "left" "Ljava/util/TreeMap$Entry;") ∈ lw_all := lw_g (lw_at lw_m5 15 rfl) rfl
theorem q1017 : (Jvm.Cond.fieldLink "java/util/TreeMap" (114 : Nat) "java/util/TreeMap$Entry" "right" "Ljava/util/TreeMap$Entry;") ∈ lw_all := lw_g (lw_at lw_m5 17 rfl) rfl
theorem q1019 : (Jvm.Cond.fieldLink "java/util/TreeMap" (124 : Nat) "java/util/TreeMap$Entry" "parent" "Ljava/util/TreeMap$Entry;") ∈ lw_all := lw_g (lw_at lw_m5 19 rfl) rfl
theorem q1021 : (Jvm.Cond.fieldLink "java/util/TreeMap" (290 : Nat) "java/util/TreeMap$Entry" "color" "Z") ∈ lw_all := lw_g (lw_at lw_m5 21 rfl) rfl
theorem q1035 : (Jvm.Cond.methodLink "java/util/TreeMap" (95 : Nat) ({ cls := "java/util/Objects", name := "requireNonNull", desc := "(Ljava/lang/Object;)Ljava/lang/Object;" } : Jvm.MethodName)) ∈ lw_all := lw_g (lw_at lw_m5 35 rfl) rfl
theorem q1038 : (Jvm.Cond.methodLink "java/util/TreeMap" (139 : Nat) ({ cls := "java/util/TreeMap", name := "addEntry", desc := "(Ljava/lang/Object;Ljava/lang/Object;Ljava/util/TreeMap$Entry;Z)V" } : Jvm.MethodName)) ∈ lw_all := lw_g (lw_at lw_m5 38 rfl) rfl
theorem q1039 : (Jvm.Cond.privateMethod ({ cls := "java/util/TreeMap", name := "addEntry", desc := "(Ljava/lang/Object;Ljava/lang/Object;Ljava/util/TreeMap$Entry;Z)V" } : Jvm.MethodName)) ∈ lw_tbl := lw_at lw_m5 39 rfl
theorem q1040 : (Jvm.Cond.instanceMethod ({ cls := "java/util/TreeMap", name := "addEntry", desc := "(Ljava/lang/Object;Ljava/lang/Object;Ljava/util/TreeMap$Entry;Z)V" } : Jvm.MethodName)) ∈ lw_all := lw_g (lw_at lw_m5 40 rfl) rfl
theorem q1041 : (Jvm.Cond.code ({ cls := "java/util/TreeMap", name := "addEntry", desc := "(Ljava/lang/Object;Ljava/lang/Object;Ljava/util/TreeMap$Entry;Z)V" } : Jvm.MethodName) prog_63_method_29_code (6 : Nat) (Option.none : Option Jvm.ClassFile.FieldType)) ∈ lw_all := lw_g (lw_at lw_m5 41 rfl) rfl
theorem q1042 : (Jvm.Cond.methodLink "java/util/TreeMap" (170 : Nat) ({ cls := "java/util/TreeMap", name := "fixAfterInsertion", desc := "(Ljava/util/TreeMap$Entry;)V" } : Jvm.MethodName)) ∈ lw_all := lw_g (lw_at lw_m5 42 rfl) rfl
theorem q1043 : (Jvm.Cond.privateMethod ({ cls := "java/util/TreeMap", name := "fixAfterInsertion", desc := "(Ljava/util/TreeMap$Entry;)V" } : Jvm.MethodName)) ∈ lw_tbl := lw_at lw_m5 43 rfl
theorem q1044 : (Jvm.Cond.instanceMethod ({ cls := "java/util/TreeMap", name := "fixAfterInsertion", desc := "(Ljava/util/TreeMap$Entry;)V" } : Jvm.MethodName)) ∈ lw_all := lw_g (lw_at lw_m5 44 rfl) rfl
theorem q1045 : (Jvm.Cond.code ({ cls := "java/util/TreeMap", name := "fixAfterInsertion", desc := "(Ljava/util/TreeMap$Entry;)V" } : Jvm.MethodName) prog_63_method_83_code (3 : Nat) (Option.none : Option Jvm.ClassFile.FieldType)) ∈ lw_all := lw_g (lw_at lw_m5 45 rfl) rfl
theorem q1046 : (Jvm.Cond.methodLink "java/util/TreeMap" (294 : Nat) ({ cls := "java/util/TreeMap", name := "parentOf", desc := "(Ljava/util/TreeMap$Entry;)Ljava/util/TreeMap$Entry;" } : Jvm.MethodName)) ∈ lw_all := lw_g (lw_at lw_m5 46 rfl) rfl
theorem q1047 : (Jvm.Cond.static ({ cls := "java/util/TreeMap", name := "parentOf", desc := "(Ljava/util/TreeMap$Entry;)Ljava/util/TreeMap$Entry;" } : Jvm.MethodName)) ∈ lw_all := lw_g (lw_at lw_m5 47 rfl) rfl
theorem q1048 : (Jvm.Cond.code ({ cls := "java/util/TreeMap", name := "parentOf", desc := "(Ljava/util/TreeMap$Entry;)Ljava/util/TreeMap$Entry;" } : Jvm.MethodName) prog_63_method_77_code (1 : Nat) (Option.some (Jvm.ClassFile.FieldType.object "java/util/TreeMap$Entry"))) ∈ lw_all := lw_g (lw_at lw_m5 48 rfl) rfl
theorem q1049 : (Jvm.Cond.methodLink "java/util/TreeMap" (297 : Nat) ({ cls := "java/util/TreeMap", name := "leftOf", desc := "(Ljava/util/TreeMap$Entry;)Ljava/util/TreeMap$Entry;" } : Jvm.MethodName)) ∈ lw_all := lw_g (lw_at lw_m5 49 rfl) rfl
theorem q1050 : (Jvm.Cond.static ({ cls := "java/util/TreeMap", name := "leftOf", desc := "(Ljava/util/TreeMap$Entry;)Ljava/util/TreeMap$Entry;" } : Jvm.MethodName)) ∈ lw_all := lw_g (lw_at lw_m5 50 rfl) rfl
theorem q1051 : (Jvm.Cond.code ({ cls := "java/util/TreeMap", name := "leftOf", desc := "(Ljava/util/TreeMap$Entry;)Ljava/util/TreeMap$Entry;" } : Jvm.MethodName) prog_63_method_79_code (1 : Nat) (Option.some (Jvm.ClassFile.FieldType.object "java/util/TreeMap$Entry"))) ∈ lw_all := lw_g (lw_at lw_m5 51 rfl) rfl
theorem q1052 : (Jvm.Cond.methodLink "java/util/TreeMap" (300 : Nat) ({ cls := "java/util/TreeMap", name := "rightOf", desc := "(Ljava/util/TreeMap$Entry;)Ljava/util/TreeMap$Entry;" } : Jvm.MethodName)) ∈ lw_all := lw_g (lw_at lw_m5 52 rfl) rfl
theorem q1053 : (Jvm.Cond.static ({ cls := "java/util/TreeMap", name := "rightOf", desc := "(Ljava/util/TreeMap$Entry;)Ljava/util/TreeMap$Entry;" } : Jvm.MethodName)) ∈ lw_all := lw_g (lw_at lw_m5 53 rfl) rfl
theorem q1054 : (Jvm.Cond.code ({ cls := "java/util/TreeMap", name := "rightOf", desc := "(Ljava/util/TreeMap$Entry;)Ljava/util/TreeMap$Entry;" } : Jvm.MethodName) prog_63_method_80_code (1 : Nat) (Option.some (Jvm.ClassFile.FieldType.object "java/util/TreeMap$Entry"))) ∈ lw_all := lw_g (lw_at lw_m5 54 rfl) rfl
theorem q1055 : (Jvm.Cond.methodLink "java/util/TreeMap" (303 : Nat) ({ cls := "java/util/TreeMap", name := "colorOf", desc := "(Ljava/util/TreeMap$Entry;)Z" } : Jvm.MethodName)) ∈ lw_all := lw_g (lw_at lw_m5 55 rfl) rfl
theorem q1056 : (Jvm.Cond.static ({ cls := "java/util/TreeMap", name := "colorOf", desc := "(Ljava/util/TreeMap$Entry;)Z" } : Jvm.MethodName)) ∈ lw_all := lw_g (lw_at lw_m5 56 rfl) rfl
theorem q1057 : (Jvm.Cond.code ({ cls := "java/util/TreeMap", name := "colorOf", desc := "(Ljava/util/TreeMap$Entry;)Z" } : Jvm.MethodName) prog_63_method_76_code (1 : Nat) (Option.some Jvm.ClassFile.FieldType.boolean)) ∈ lw_all := lw_g (lw_at lw_m5 57 rfl) rfl
theorem q1058 : (Jvm.Cond.methodLink "java/util/TreeMap" (307 : Nat) ({ cls := "java/util/TreeMap", name := "setColor", desc := "(Ljava/util/TreeMap$Entry;Z)V" } : Jvm.MethodName)) ∈ lw_all := lw_g (lw_at lw_m5 58 rfl) rfl
theorem q1059 : (Jvm.Cond.static ({ cls := "java/util/TreeMap", name := "setColor", desc := "(Ljava/util/TreeMap$Entry;Z)V" } : Jvm.MethodName)) ∈ lw_all := lw_g (lw_at lw_m5 59 rfl) rfl
theorem q1060 : (Jvm.Cond.code ({ cls := "java/util/TreeMap", name := "setColor", desc := "(Ljava/util/TreeMap$Entry;Z)V" } : Jvm.MethodName) prog_63_method_78_code (2 : Nat) (Option.none : Option Jvm.ClassFile.FieldType)) ∈ lw_all := lw_g (lw_at lw_m5 60 rfl) rfl
theorem q1061 : (Jvm.Cond.methodLink "java/util/TreeMap" (311 : Nat) ({ cls := "java/util/TreeMap", name := "rotateLeft", desc := "(Ljava/util/TreeMap$Entry;)V" } : Jvm.MethodName)) ∈ lw_all := lw_g (lw_at lw_m5 61 rfl) rfl
theorem q1062 : (Jvm.Cond.privateMethod ({ cls := "java/util/TreeMap", name := "rotateLeft", desc := "(Ljava/util/TreeMap$Entry;)V" } : Jvm.MethodName)) ∈ lw_tbl := lw_at lw_m5 62 rfl
theorem q1063 : (Jvm.Cond.instanceMethod ({ cls := "java/util/TreeMap", name := "rotateLeft", desc := "(Ljava/util/TreeMap$Entry;)V" } : Jvm.MethodName)) ∈ lw_all := lw_g (lw_at lw_m5 63 rfl) rfl
theorem q1064 : (Jvm.Cond.code ({ cls := "java/util/TreeMap", name := "rotateLeft", desc := "(Ljava/util/TreeMap$Entry;)V" } : Jvm.MethodName) prog_63_method_81_code (3 : Nat) (Option.none : Option Jvm.ClassFile.FieldType)) ∈ lw_all := lw_g (lw_at lw_m5 64 rfl) rfl
theorem q1065 : (Jvm.Cond.methodLink "java/util/TreeMap" (314 : Nat) ({ cls := "java/util/TreeMap", name := "rotateRight", desc := "(Ljava/util/TreeMap$Entry;)V" } : Jvm.MethodName)) ∈ lw_all := lw_g (lw_at lw_m5 65 rfl) rfl
theorem q1066 : (Jvm.Cond.privateMethod ({ cls := "java/util/TreeMap", name := "rotateRight", desc := "(Ljava/util/TreeMap$Entry;)V" } : Jvm.MethodName)) ∈ lw_tbl := lw_at lw_m5 66 rfl
theorem q1067 : (Jvm.Cond.instanceMethod ({ cls := "java/util/TreeMap", name := "rotateRight", desc := "(Ljava/util/TreeMap$Entry;)V" } : Jvm.MethodName)) ∈ lw_all := lw_g (lw_at lw_m5 67 rfl) rfl
theorem q1068 : (Jvm.Cond.code ({ cls := "java/util/TreeMap", name := "rotateRight", desc := "(Ljava/util/TreeMap$Entry;)V" } : Jvm.MethodName) prog_63_method_82_code (3 : Nat) (Option.none : Option Jvm.ClassFile.FieldType)) ∈ lw_all := lw_g (lw_at lw_m5 68 rfl) rfl
theorem q1160 : (Jvm.Cond.instanceMethod ({ cls := "java/util/TreeMap", name := "keyIterator", desc := "()Ljava/util/Iterator;" } : Jvm.MethodName)) ∈ lw_all := lw_g (lw_at lw_m5 160 rfl) rfl
theorem q1161 : (Jvm.Cond.selects "java/util/TreeMap" ({ cls := "java/util/TreeMap", name := "keyIterator", desc := "()Ljava/util/Iterator;" } : Jvm.MethodName) ({ cls := "java/util/TreeMap", name := "keyIterator", desc := "()Ljava/util/Iterator;" } : Jvm.MethodName)) ∈ lw_all := lw_g (lw_at lw_m5 161 rfl) rfl
theorem q1162 : (Jvm.Cond.code ({ cls := "java/util/TreeMap", name := "keyIterator", desc := "()Ljava/util/Iterator;" } : Jvm.MethodName) prog_63_method_65_code (1 : Nat) (Option.some (Jvm.ClassFile.FieldType.object "java/util/Iterator"))) ∈ lw_all := lw_g (lw_at lw_m5 162 rfl) rfl
theorem q1163 : (Jvm.Cond.classLink "java/util/TreeMap" (269 : Nat) "java/util/TreeMap$KeyIterator") ∈ lw_all := lw_g (lw_at lw_m5 163 rfl) rfl
theorem q1165 : (Jvm.Cond.methodLink "java/util/TreeMap" (54 : Nat) ({ cls := "java/util/TreeMap", name := "getFirstEntry", desc := "()Ljava/util/TreeMap$Entry;" } : Jvm.MethodName)) ∈ lw_all := lw_g (lw_at lw_m5 165 rfl) rfl
theorem q1166 : (Jvm.Cond.instanceMethod ({ cls := "java/util/TreeMap", name := "getFirstEntry", desc := "()Ljava/util/TreeMap$Entry;" } : Jvm.MethodName)) ∈ lw_all := lw_g (lw_at lw_m5 166 rfl) rfl
theorem q1167 : (Jvm.Cond.selects "java/util/TreeMap" ({ cls := "java/util/TreeMap", name := "getFirstEntry", desc := "()Ljava/util/TreeMap$Entry;" } : Jvm.MethodName) ({ cls := "java/util/TreeMap", name := "getFirstEntry", desc := "()Ljava/util/TreeMap$Entry;" } : Jvm.MethodName)) ∈ lw_all := lw_g (lw_at lw_m5 167 rfl) rfl
theorem q1168 : (Jvm.Cond.code ({ cls := "java/util/TreeMap", name := "getFirstEntry", desc := "()Ljava/util/TreeMap$Entry;" } : Jvm.MethodName) prog_63_method_72_code (2 : Nat) (Option.some (Jvm.ClassFile.FieldType.object "java/util/TreeMap$Entry"))) ∈ lw_all := lw_g (lw_at lw_m5 168 rfl) rfl
theorem q1169 : (Jvm.Cond.methodLink "java/util/TreeMap" (271 : Nat) ({ cls := "java/util/TreeMap$KeyIterator", name := "<init>", desc := "(Ljava/util/TreeMap;Ljava/util/TreeMap$Entry;)V" } : Jvm.MethodName)) ∈ lw_all := lw_g (lw_at lw_m5 169 rfl) rfl
theorem q1202 : (Jvm.Cond.selects "java/util/TreeMap" ({ cls := "java/util/NavigableMap", name := "navigableKeySet", desc := "()Ljava/util/NavigableSet;" } : Jvm.MethodName) ({ cls := "java/util/TreeMap", name := "navigableKeySet", desc := "()Ljava/util/NavigableSet;" } : Jvm.MethodName)) ∈ lw_all := lw_g (lw_at lw_m5 202 rfl) rfl
theorem q1203 : (Jvm.Cond.unhidden "java/util/TreeMap" "navigableKeySet" "()Ljava/util/NavigableSet;") ∈ lw_tbl := lw_at lw_m5 203 rfl
theorem q1204 : (Jvm.Cond.instanceMethod ({ cls := "java/util/TreeMap", name := "navigableKeySet", desc := "()Ljava/util/NavigableSet;" } : Jvm.MethodName)) ∈ lw_all := lw_g (lw_at lw_m5 204 rfl) rfl
theorem q1205 : (Jvm.Cond.publicMethod ({ cls := "java/util/TreeMap", name := "navigableKeySet", desc := "()Ljava/util/NavigableSet;" } : Jvm.MethodName)) ∈ lw_tbl := lw_at lw_m5 205 rfl
theorem q1206 : (Jvm.Cond.code ({ cls := "java/util/TreeMap", name := "navigableKeySet", desc := "()Ljava/util/NavigableSet;" } : Jvm.MethodName) prog_63_method_50_code (2 : Nat) (Option.some (Jvm.ClassFile.FieldType.object "java/util/NavigableSet"))) ∈ lw_all := lw_g (lw_at lw_m5 206 rfl) rfl
theorem q1207 : (Jvm.Cond.classLink "java/util/TreeMap" (222 : Nat) "java/util/TreeMap$KeySet") ∈ lw_all := lw_g (lw_at lw_m5 207 rfl) rfl
theorem q1209 : (Jvm.Cond.methodLink "java/util/TreeMap" (224 : Nat) ({ cls := "java/util/TreeMap$KeySet", name := "<init>", desc := "(Ljava/util/NavigableMap;)V" } : Jvm.MethodName)) ∈ lw_all := lw_g (lw_at lw_m5 209 rfl) rfl
theorem q1239 : (Jvm.Cond.selects "java/util/TreeMap" ({ cls := "java/util/Map", name := "remove", desc := "(Ljava/lang/Object;)Ljava/lang/Object;" } : Jvm.MethodName) ({ cls := "java/util/TreeMap", name := "remove", desc := "(Ljava/lang/Object;)Ljava/lang/Object;" } : Jvm.MethodName)) ∈ lw_all := lw_g (lw_at lw_m5 239 rfl) rfl
theorem q1240 : (Jvm.Cond.unhidden "java/util/TreeMap" "remove" "(Ljava/lang/Object;)Ljava/lang/Object;") ∈ lw_tbl := lw_at lw_m6 0 rfl
theorem q1241 : (Jvm.Cond.instanceMethod ({ cls := "java/util/TreeMap", name := "remove", desc := "(Ljava/lang/Object;)Ljava/lang/Object;" } : Jvm.MethodName)) ∈ lw_all := lw_g (lw_at lw_m6 1 rfl) rfl
theorem q1242 : (Jvm.Cond.publicMethod ({ cls := "java/util/TreeMap", name := "remove", desc := "(Ljava/lang/Object;)Ljava/lang/Object;" } : Jvm.MethodName)) ∈ lw_tbl := lw_at lw_m6 2 rfl
theorem q1243 : (Jvm.Cond.code ({ cls := "java/util/TreeMap", name := "remove", desc := "(Ljava/lang/Object;)Ljava/lang/Object;" } : Jvm.MethodName) prog_63_method_34_code (4 : Nat) (Option.some (Jvm.ClassFile.FieldType.object "java/lang/Object"))) ∈ lw_all := lw_g (lw_at lw_m6 3 rfl) rfl
theorem q1244 : (Jvm.Cond.methodLink "java/util/TreeMap" (50 : Nat) ({ cls := "java/util/TreeMap", name := "getEntry", desc := "(Ljava/lang/Object;)Ljava/util/TreeMap$Entry;" } : Jvm.MethodName)) ∈ lw_all := lw_g (lw_at lw_m6 4 rfl) rfl
theorem q1245 : (Jvm.Cond.instanceMethod ({ cls := "java/util/TreeMap", name := "getEntry", desc := "(Ljava/lang/Object;)Ljava/util/TreeMap$Entry;" } : Jvm.MethodName)) ∈ lw_all := lw_g (lw_at lw_m6 5 rfl) rfl
theorem q1246 : (Jvm.Cond.selects "java/util/TreeMap" ({ cls := "java/util/TreeMap", name := "getEntry", desc := "(Ljava/lang/Object;)Ljava/util/TreeMap$Entry;" } : Jvm.MethodName) ({ cls := "java/util/TreeMap", name := "getEntry", desc := "(Ljava/lang/Object;)Ljava/util/TreeMap$Entry;" } : Jvm.MethodName)) ∈ lw_all := lw_g (lw_at lw_m6 6 rfl) rfl
theorem q1247 : (Jvm.Cond.code ({ cls := "java/util/TreeMap", name := "getEntry", desc := "(Ljava/lang/Object;)Ljava/util/TreeMap$Entry;" } : Jvm.MethodName) prog_63_method_15_code (5 : Nat) (Option.some (Jvm.ClassFile.FieldType.object "java/util/TreeMap$Entry"))) ∈ lw_all := lw_g (lw_at lw_m6 7 rfl) rfl
theorem q1248 : (Jvm.Cond.methodLink "java/util/TreeMap" (92 : Nat) ({ cls := "java/util/TreeMap", name := "getEntryUsingComparator", desc := "(Ljava/lang/Object;)Ljava/util/TreeMap$Entry;" } : Jvm.MethodName)) ∈ lw_all := lw_g (lw_at lw_m6 8 rfl) rfl
theorem q1249 : (Jvm.Cond.instanceMethod ({ cls := "java/util/TreeMap", name := "getEntryUsingComparator", desc := "(Ljava/lang/Object;)Ljava/util/TreeMap$Entry;" } : Jvm.MethodName)) ∈ lw_all := lw_g (lw_at lw_m6 9 rfl) rfl
theorem q1250 : (Jvm.Cond.selects "java/util/TreeMap" ({ cls := "java/util/TreeMap", name := "getEntryUsingComparator", desc := "(Ljava/lang/Object;)Ljava/util/TreeMap$Entry;" } : Jvm.MethodName) ({ cls := "java/util/TreeMap", name := "getEntryUsingComparator", desc := "(Ljava/lang/Object;)Ljava/util/TreeMap$Entry;" } : Jvm.MethodName)) ∈ lw_all := lw_g (lw_at lw_m6 10 rfl) rfl
theorem q1251 : (Jvm.Cond.code ({ cls := "java/util/TreeMap", name := "getEntryUsingComparator", desc := "(Ljava/lang/Object;)Ljava/util/TreeMap$Entry;" } : Jvm.MethodName) prog_63_method_16_code (6 : Nat) (Option.some (Jvm.ClassFile.FieldType.object "java/util/TreeMap$Entry"))) ∈ lw_all := lw_g (lw_at lw_m6 11 rfl) rfl
theorem q1252 : (Jvm.Cond.methodLink "java/util/TreeMap" (174 : Nat) ({ cls := "java/util/TreeMap", name := "deleteEntry", desc := "(Ljava/util/TreeMap$Entry;)V" } : Jvm.MethodName)) ∈ lw_all := lw_g (lw_at lw_m6 12 rfl) rfl
theorem q1253 : (Jvm.Cond.privateMethod ({ cls := "java/util/TreeMap", name := "deleteEntry", desc := "(Ljava/util/TreeMap$Entry;)V" } : Jvm.MethodName)) ∈ lw_tbl := lw_at lw_m6 13 rfl
theorem q1254 : (Jvm.Cond.instanceMethod ({ cls := "java/util/TreeMap", name := "deleteEntry", desc := "(Ljava/util/TreeMap$Entry;)V" } : Jvm.MethodName)) ∈ lw_all := lw_g (lw_at lw_m6 14 rfl) rfl
theorem q1255 : (Jvm.Cond.code ({ cls := "java/util/TreeMap", name := "deleteEntry", desc := "(Ljava/util/TreeMap$Entry;)V" } : Jvm.MethodName) prog_63_method_84_code (3 : Nat) (Option.none : Option Jvm.ClassFile.FieldType)) ∈ lw_all := lw_g (lw_at lw_m6 15 rfl) rfl
theorem q1256 : (Jvm.Cond.methodLink "java/util/TreeMap" (68 : Nat) ({ cls := "java/util/TreeMap", name := "successor", desc := "(Ljava/util/TreeMap$Entry;)Ljava/util/TreeMap$Entry;" } : Jvm.MethodName)) ∈ lw_all := lw_g (lw_at lw_m6 16 rfl) rfl
theorem q1257 : (Jvm.Cond.methodLink "java/util/TreeMap" (317 : Nat) ({ cls := "java/util/TreeMap", name := "fixAfterDeletion", desc := "(Ljava/util/TreeMap$Entry;)V" } : Jvm.MethodName)) ∈ lw_all := lw_g (lw_at lw_m6 17 rfl) rfl
theorem q1258 : (Jvm.Cond.privateMethod ({ cls := "java/util/TreeMap", name := "fixAfterDeletion", desc := "(Ljava/util/TreeMap$Entry;)V" } : Jvm.MethodName)) ∈ lw_tbl := lw_at lw_m6 18 rfl
theorem q1259 : (Jvm.Cond.instanceMethod ({ cls := "java/util/TreeMap", name := "fixAfterDeletion", desc := "(Ljava/util/TreeMap$Entry;)V" } : Jvm.MethodName)) ∈ lw_all := lw_g (lw_at lw_m6 19 rfl) rfl
theorem q1260 : (Jvm.Cond.code ({ cls := "java/util/TreeMap", name := "fixAfterDeletion", desc := "(Ljava/util/TreeMap$Entry;)V" } : Jvm.MethodName) prog_63_method_85_code (3 : Nat) (Option.none : Option Jvm.ClassFile.FieldType)) ∈ lw_all := lw_g (lw_at lw_m6 20 rfl) rfl
theorem q1384 : (Jvm.Cond.selects "java/util/TreeMap" ({ cls := "java/util/Map", name := "containsKey", desc := "(Ljava/lang/Object;)Z" } : Jvm.MethodName) ({ cls := "java/util/TreeMap", name := "containsKey", desc := "(Ljava/lang/Object;)Z" } : Jvm.MethodName)) ∈ lw_all := lw_g (lw_at lw_m6 144 rfl) rfl
theorem q1385 : (Jvm.Cond.unhidden "java/util/TreeMap" "containsKey" "(Ljava/lang/Object;)Z") ∈ lw_tbl := lw_at lw_m6 145 rfl
theorem q1386 : (Jvm.Cond.instanceMethod ({ cls := "java/util/TreeMap", name := "containsKey", desc := "(Ljava/lang/Object;)Z" } : Jvm.MethodName)) ∈ lw_all := lw_g (lw_at lw_m6 146 rfl) rfl
theorem q1387 : (Jvm.Cond.publicMethod ({ cls := "java/util/TreeMap", name := "containsKey", desc := "(Ljava/lang/Object;)Z" } : Jvm.MethodName)) ∈ lw_tbl := lw_at lw_m6 147 rfl
theorem q1388 : (Jvm.Cond.code ({ cls := "java/util/TreeMap", name := "containsKey", desc := "(Ljava/lang/Object;)Z" } : Jvm.MethodName) prog_63_method_6_code (2 : Nat) (Option.some Jvm.ClassFile.FieldType.boolean)) ∈ lw_all := lw_g (lw_at lw_m6 148 rfl) rfl
theorem q1866 : (Jvm.Cond.castable "java/util/TreeMap" "java/lang/Object") ∈ lw_tbl := lw_at lw_m8 146 rfl
theorem in_J6 : ∀ w ∈ wsJ60, w ∈ lw_all := lw_in wsJ60 [156, 158, 142, 144, 146, 148, 150, 152, 154] (by decide +kernel) (by decide +kernel)
