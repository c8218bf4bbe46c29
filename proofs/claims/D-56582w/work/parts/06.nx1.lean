/-! BinderyDesk -/
set_option maxRecDepth 100000
def RX1 : String := "BinderyDesk"
def TX1 : u_T := fun k => match k with
  | 0 => ("BinderyDesk", "contents", "Ljava/util/List;", true)
  | 1 => ("BinderyDesk", "jobs", "Ljava/util/List;", true)
  | 2 => ("BinderyDesk", "log", "Ljava/util/List;", true)
  | 3 => ("BinderyDesk", "lots", "Ljava/util/List;", true)
  | 4 => ("BinderyDesk", "plates", "Ljava/util/TreeSet;", true)
  | 5 => ("BinderyDesk", "printed", "LBinderyDesk$Counter;", true)
  | 6 => ("BinderyDesk", "wasted", "LBinderyDesk$Counter;", true)
  | 7 => ("BinderyDesk", "prints", "I", false)
  | 8 => ("BinderyDesk", "makeready", "J", false)
  | 9 => ("BinderyDesk", "press", "[I", true)
  | _ => ("BinderyDesk", "pressBinding", "LBinderyDesk$Binding;", false)
def tyX1 : Nat → FieldType := fun k => match k with
  | 0 => .object "java/util/List"
  | 1 => .object "java/util/List"
  | 2 => .object "java/util/List"
  | 3 => .object "java/util/List"
  | 4 => .object "java/util/TreeSet"
  | 5 => .object "BinderyDesk$Counter"
  | 6 => .object "BinderyDesk$Counter"
  | 7 => .int
  | 8 => .long
  | 9 => .array .int
  | _ => .object "BinderyDesk$Binding"
abbrev wsX10 : List Cond := u_ws RX1 TX1 11
theorem nmX1 : ∀ a, a < 11 → ∀ b, b < 11 → a ≠ b → (TX1 a).2.1 ≠ (TX1 b).2.1 := by decide +kernel
theorem tyX1_ok : ∀ k, k < 11 → parseFieldDescriptor (TX1 k).2.2.1 = some (tyX1 k) := by decide +kernel
abbrev cX1_init : ByteArray := prog_1_method_6_code
def yX1_init : MethodName := ⟨RX1, "<init>", "()V"⟩
def dkwX1_init_4 : List UInt8 := [2, 79, 181, 0, 57, 177]
abbrev dktX1_init_4 : List UInt8 := dkwX1_init_4 ++ []
def dkwX1_init_3 : List UInt8 := [181, 0, 50, 42, 187, 0, 47, 89, 183, 0, 49, 181, 0, 54, 42, 5, 188, 10, 89, 3, 2, 79, 89, 4]
abbrev dktX1_init_3 : List UInt8 := dkwX1_init_3 ++ dktX1_init_4
def dkwX1_init_2 : List UInt8 := [181, 0, 37, 42, 187, 0, 40, 89, 183, 0, 42, 181, 0, 43, 42, 187, 0, 47, 89, 183, 0, 49]
abbrev dktX1_init_2 : List UInt8 := dkwX1_init_2 ++ dktX1_init_3
def dkwX1_init_1 : List UInt8 := [181, 0, 31, 42, 187, 0, 24, 89, 183, 0, 26, 181, 0, 34, 42, 187, 0, 24, 89, 183, 0, 26]
abbrev dktX1_init_1 : List UInt8 := dkwX1_init_1 ++ dktX1_init_2
def dkwX1_init_0 : List UInt8 := [42, 183, 0, 21, 42, 187, 0, 24, 89, 183, 0, 26, 181, 0, 27, 42, 187, 0, 24, 89, 183, 0, 26]
abbrev dktX1_init_0 : List UInt8 := dkwX1_init_0 ++ dktX1_init_1
theorem dksX1_init_0 : cX1_init.data.toList.drop 0 = dktX1_init_0 := by decide +kernel
theorem dksX1_init_1 : cX1_init.data.toList.drop 23 = dktX1_init_1 := dk_seg dksX1_init_0 23 rfl rfl
theorem dksX1_init_2 : cX1_init.data.toList.drop 45 = dktX1_init_2 := dk_seg dksX1_init_1 22 rfl rfl
theorem dksX1_init_3 : cX1_init.data.toList.drop 67 = dktX1_init_3 := dk_seg dksX1_init_2 22 rfl rfl
theorem dksX1_init_4 : cX1_init.data.toList.drop 91 = dktX1_init_4 := dk_seg dksX1_init_3 24 rfl rfl
theorem dX1_init_0 : decode cX1_init 0 = .ok (.aload_n 0, 1) := dk_42 (dk_at dksX1_init_0 0 rfl rfl)
theorem dX1_init_1 : decode cX1_init 1 = .ok (.invokespecial 21, 3) := dk_183 0 21 (dk_at dksX1_init_0 1 rfl rfl)
theorem dX1_init_4 : decode cX1_init 4 = .ok (.aload_n 0, 1) := dk_42 (dk_at dksX1_init_0 4 rfl rfl)
theorem dX1_init_5 : decode cX1_init 5 = .ok (.new 24, 3) := dk_187 0 24 (dk_at dksX1_init_0 5 rfl rfl)
theorem dX1_init_8 : decode cX1_init 8 = .ok (.dup, 1) := dk_89 (dk_at dksX1_init_0 8 rfl rfl)
theorem dX1_init_9 : decode cX1_init 9 = .ok (.invokespecial 26, 3) := dk_183 0 26 (dk_at dksX1_init_0 9 rfl rfl)
theorem dX1_init_12 : decode cX1_init 12 = .ok (.putfield 27, 3) := dk_181 0 27 (dk_at dksX1_init_0 12 rfl rfl)
theorem dX1_init_15 : decode cX1_init 15 = .ok (.aload_n 0, 1) := dk_42 (dk_at dksX1_init_0 15 rfl rfl)
theorem dX1_init_16 : decode cX1_init 16 = .ok (.new 24, 3) := dk_187 0 24 (dk_at dksX1_init_0 16 rfl rfl)
theorem dX1_init_19 : decode cX1_init 19 = .ok (.dup, 1) := dk_89 (dk_at dksX1_init_0 19 rfl rfl)
theorem dX1_init_20 : decode cX1_init 20 = .ok (.invokespecial 26, 3) := dk_183 0 26 (dk_at dksX1_init_0 20 rfl rfl)
theorem dX1_init_23 : decode cX1_init 23 = .ok (.putfield 31, 3) := dk_181 0 31 (dk_at dksX1_init_1 0 rfl rfl)
theorem dX1_init_26 : decode cX1_init 26 = .ok (.aload_n 0, 1) := dk_42 (dk_at dksX1_init_1 3 rfl rfl)
theorem dX1_init_27 : decode cX1_init 27 = .ok (.new 24, 3) := dk_187 0 24 (dk_at dksX1_init_1 4 rfl rfl)
theorem dX1_init_30 : decode cX1_init 30 = .ok (.dup, 1) := dk_89 (dk_at dksX1_init_1 7 rfl rfl)
theorem dX1_init_31 : decode cX1_init 31 = .ok (.invokespecial 26, 3) := dk_183 0 26 (dk_at dksX1_init_1 8 rfl rfl)
theorem dX1_init_34 : decode cX1_init 34 = .ok (.putfield 34, 3) := dk_181 0 34 (dk_at dksX1_init_1 11 rfl rfl)
theorem dX1_init_37 : decode cX1_init 37 = .ok (.aload_n 0, 1) := dk_42 (dk_at dksX1_init_1 14 rfl rfl)
theorem dX1_init_38 : decode cX1_init 38 = .ok (.new 24, 3) := dk_187 0 24 (dk_at dksX1_init_1 15 rfl rfl)
theorem dX1_init_41 : decode cX1_init 41 = .ok (.dup, 1) := dk_89 (dk_at dksX1_init_1 18 rfl rfl)
theorem dX1_init_42 : decode cX1_init 42 = .ok (.invokespecial 26, 3) := dk_183 0 26 (dk_at dksX1_init_1 19 rfl rfl)
theorem dX1_init_45 : decode cX1_init 45 = .ok (.putfield 37, 3) := dk_181 0 37 (dk_at dksX1_init_2 0 rfl rfl)
theorem dX1_init_48 : decode cX1_init 48 = .ok (.aload_n 0, 1) := dk_42 (dk_at dksX1_init_2 3 rfl rfl)
theorem dX1_init_49 : decode cX1_init 49 = .ok (.new 40, 3) := dk_187 0 40 (dk_at dksX1_init_2 4 rfl rfl)
theorem dX1_init_52 : decode cX1_init 52 = .ok (.dup, 1) := dk_89 (dk_at dksX1_init_2 7 rfl rfl)
theorem dX1_init_53 : decode cX1_init 53 = .ok (.invokespecial 42, 3) := dk_183 0 42 (dk_at dksX1_init_2 8 rfl rfl)
theorem dX1_init_56 : decode cX1_init 56 = .ok (.putfield 43, 3) := dk_181 0 43 (dk_at dksX1_init_2 11 rfl rfl)
theorem dX1_init_59 : decode cX1_init 59 = .ok (.aload_n 0, 1) := dk_42 (dk_at dksX1_init_2 14 rfl rfl)
theorem dX1_init_60 : decode cX1_init 60 = .ok (.new 47, 3) := dk_187 0 47 (dk_at dksX1_init_2 15 rfl rfl)
theorem dX1_init_63 : decode cX1_init 63 = .ok (.dup, 1) := dk_89 (dk_at dksX1_init_2 18 rfl rfl)
theorem dX1_init_64 : decode cX1_init 64 = .ok (.invokespecial 49, 3) := dk_183 0 49 (dk_at dksX1_init_2 19 rfl rfl)
theorem dX1_init_67 : decode cX1_init 67 = .ok (.putfield 50, 3) := dk_181 0 50 (dk_at dksX1_init_3 0 rfl rfl)
theorem dX1_init_70 : decode cX1_init 70 = .ok (.aload_n 0, 1) := dk_42 (dk_at dksX1_init_3 3 rfl rfl)
theorem dX1_init_71 : decode cX1_init 71 = .ok (.new 47, 3) := dk_187 0 47 (dk_at dksX1_init_3 4 rfl rfl)
theorem dX1_init_74 : decode cX1_init 74 = .ok (.dup, 1) := dk_89 (dk_at dksX1_init_3 7 rfl rfl)
theorem dX1_init_75 : decode cX1_init 75 = .ok (.invokespecial 49, 3) := dk_183 0 49 (dk_at dksX1_init_3 8 rfl rfl)
theorem dX1_init_78 : decode cX1_init 78 = .ok (.putfield 54, 3) := dk_181 0 54 (dk_at dksX1_init_3 11 rfl rfl)
theorem dX1_init_81 : decode cX1_init 81 = .ok (.aload_n 0, 1) := dk_42 (dk_at dksX1_init_3 14 rfl rfl)
theorem dX1_init_82 : decode cX1_init 82 = .ok (.iconst 2, 1) := dk_5 (dk_at dksX1_init_3 15 rfl rfl)
theorem dX1_init_83 : decode cX1_init 83 = .ok (.newarray .int, 2) := dk_188_10 (dk_at dksX1_init_3 16 rfl rfl)
theorem dX1_init_85 : decode cX1_init 85 = .ok (.dup, 1) := dk_89 (dk_at dksX1_init_3 18 rfl rfl)
theorem dX1_init_86 : decode cX1_init 86 = .ok (.iconst 0, 1) := dk_3 (dk_at dksX1_init_3 19 rfl rfl)
theorem dX1_init_87 : decode cX1_init 87 = .ok (.iconst (-1), 1) := dk_2 (dk_at dksX1_init_3 20 rfl rfl)
theorem dX1_init_88 : decode cX1_init 88 = .ok (.iastore, 1) := dk_79 (dk_at dksX1_init_3 21 rfl rfl)
theorem dX1_init_89 : decode cX1_init 89 = .ok (.dup, 1) := dk_89 (dk_at dksX1_init_3 22 rfl rfl)
theorem dX1_init_90 : decode cX1_init 90 = .ok (.iconst 1, 1) := dk_4 (dk_at dksX1_init_3 23 rfl rfl)
theorem dX1_init_91 : decode cX1_init 91 = .ok (.iconst (-1), 1) := dk_2 (dk_at dksX1_init_4 0 rfl rfl)
theorem dX1_init_92 : decode cX1_init 92 = .ok (.iastore, 1) := dk_79 (dk_at dksX1_init_4 1 rfl rfl)
theorem dX1_init_93 : decode cX1_init 93 = .ok (.putfield 57, 3) := dk_181 0 57 (dk_at dksX1_init_4 2 rfl rfl)
theorem dX1_init_96 : decode cX1_init 96 = .ok (.return_, 1) := dk_177 (dk_at dksX1_init_4 5 rfl rfl)
abbrev cX1_plates : ByteArray := prog_1_method_30_code
def yX1_plates : MethodName := ⟨RX1, "plates", "()I"⟩
def dkwX1_plates_0 : List UInt8 := [42, 180, 0, 43, 182, 0, 230, 172]
abbrev dktX1_plates_0 : List UInt8 := dkwX1_plates_0 ++ []
theorem dksX1_plates_0 : cX1_plates.data.toList.drop 0 = dktX1_plates_0 := by decide +kernel
theorem dX1_plates_0 : decode cX1_plates 0 = .ok (.aload_n 0, 1) := dk_42 (dk_at dksX1_plates_0 0 rfl rfl)
theorem dX1_plates_1 : decode cX1_plates 1 = .ok (.getfield 43, 3) := dk_180 0 43 (dk_at dksX1_plates_0 1 rfl rfl)
theorem dX1_plates_4 : decode cX1_plates 4 = .ok (.invokevirtual 230, 3) := dk_182 0 230 (dk_at dksX1_plates_0 4 rfl rfl)
theorem dX1_plates_7 : decode cX1_plates 7 = .ok (.ireturn, 1) := dk_172 (dk_at dksX1_plates_0 7 rfl rfl)
abbrev cX1_lots : ByteArray := prog_1_method_34_code
def yX1_lots : MethodName := ⟨RX1, "lots", "()I"⟩
def dkwX1_lots_0 : List UInt8 := [42, 180, 0, 37, 185, 0, 61, 1, 0, 172]
abbrev dktX1_lots_0 : List UInt8 := dkwX1_lots_0 ++ []
theorem dksX1_lots_0 : cX1_lots.data.toList.drop 0 = dktX1_lots_0 := by decide +kernel
theorem dX1_lots_0 : decode cX1_lots 0 = .ok (.aload_n 0, 1) := dk_42 (dk_at dksX1_lots_0 0 rfl rfl)
theorem dX1_lots_1 : decode cX1_lots 1 = .ok (.getfield 37, 3) := dk_180 0 37 (dk_at dksX1_lots_0 1 rfl rfl)
theorem dX1_lots_4 : decode cX1_lots 4 = .ok (.invokeinterface 61 1, 5) := by decide +kernel
theorem dX1_lots_9 : decode cX1_lots 9 = .ok (.ireturn, 1) := dk_172 (dk_at dksX1_lots_0 9 rfl rfl)
abbrev cX1_waste : ByteArray := prog_1_method_41_code
def yX1_waste : MethodName := ⟨RX1, "waste", "()J"⟩
def dkwX1_waste_0 : List UInt8 := [42, 180, 0, 54, 182, 1, 16, 173]
abbrev dktX1_waste_0 : List UInt8 := dkwX1_waste_0 ++ []
theorem dksX1_waste_0 : cX1_waste.data.toList.drop 0 = dktX1_waste_0 := by decide +kernel
theorem dX1_waste_0 : decode cX1_waste 0 = .ok (.aload_n 0, 1) := dk_42 (dk_at dksX1_waste_0 0 rfl rfl)
theorem dX1_waste_1 : decode cX1_waste 1 = .ok (.getfield 54, 3) := dk_180 0 54 (dk_at dksX1_waste_0 1 rfl rfl)
theorem dX1_waste_4 : decode cX1_waste 4 = .ok (.invokevirtual 272, 3) := dk_182 1 16 (dk_at dksX1_waste_0 4 rfl rfl)
theorem dX1_waste_7 : decode cX1_waste 7 = .ok (.lreturn, 1) := dk_173 (dk_at dksX1_waste_0 7 rfl rfl)
abbrev cX1_addContent : ByteArray := prog_1_method_11_code
def yX1_addContent : MethodName := ⟨RX1, "addContent", "()I"⟩
def dkwX1_addContent_2 : List UInt8 := [87, 42, 180, 0, 27, 185, 0, 61, 1, 0, 4, 100, 172]
abbrev dktX1_addContent_2 : List UInt8 := dkwX1_addContent_2 ++ []
def dkwX1_addContent_1 : List UInt8 := [180, 0, 27, 187, 0, 75, 89, 42, 180, 0, 27, 185, 0, 61, 1, 0, 183, 0, 100, 185, 0, 103, 2, 0]
abbrev dktX1_addContent_1 : List UInt8 := dkwX1_addContent_1 ++ dktX1_addContent_2
def dkwX1_addContent_0 : List UInt8 := [42, 180, 0, 27, 185, 0, 61, 1, 0, 16, 12, 162, 0, 7, 4, 167, 0, 4, 3, 184, 0, 87, 42]
abbrev dktX1_addContent_0 : List UInt8 := dkwX1_addContent_0 ++ dktX1_addContent_1
theorem dksX1_addContent_0 : cX1_addContent.data.toList.drop 0 = dktX1_addContent_0 := by decide +kernel
theorem dksX1_addContent_1 : cX1_addContent.data.toList.drop 23 = dktX1_addContent_1 := dk_seg dksX1_addContent_0 23 rfl rfl
theorem dksX1_addContent_2 : cX1_addContent.data.toList.drop 47 = dktX1_addContent_2 := dk_seg dksX1_addContent_1 24 rfl rfl
theorem dX1_addContent_0 : decode cX1_addContent 0 = .ok (.aload_n 0, 1) := dk_42 (dk_at dksX1_addContent_0 0 rfl rfl)
theorem dX1_addContent_1 : decode cX1_addContent 1 = .ok (.getfield 27, 3) := dk_180 0 27 (dk_at dksX1_addContent_0 1 rfl rfl)
theorem dX1_addContent_4 : decode cX1_addContent 4 = .ok (.invokeinterface 61 1, 5) := by decide +kernel
theorem dX1_addContent_9 : decode cX1_addContent 9 = .ok (.bipush 12, 2) := dk_16 12 (dk_at dksX1_addContent_0 9 rfl rfl)
theorem dX1_addContent_11 : decode cX1_addContent 11 = .ok (.if_icmp .ge 7, 3) := dk_162 0 7 (dk_at dksX1_addContent_0 11 rfl rfl)
theorem dX1_addContent_14 : decode cX1_addContent 14 = .ok (.iconst 1, 1) := dk_4 (dk_at dksX1_addContent_0 14 rfl rfl)
theorem dX1_addContent_15 : decode cX1_addContent 15 = .ok (.goto 4, 3) := dk_167 0 4 (dk_at dksX1_addContent_0 15 rfl rfl)
theorem dX1_addContent_18 : decode cX1_addContent 18 = .ok (.iconst 0, 1) := dk_3 (dk_at dksX1_addContent_0 18 rfl rfl)
theorem dX1_addContent_19 : decode cX1_addContent 19 = .ok (.invokestatic 87, 3) := dk_184 0 87 (dk_at dksX1_addContent_0 19 rfl rfl)
theorem dX1_addContent_22 : decode cX1_addContent 22 = .ok (.aload_n 0, 1) := dk_42 (dk_at dksX1_addContent_0 22 rfl rfl)
theorem dX1_addContent_23 : decode cX1_addContent 23 = .ok (.getfield 27, 3) := dk_180 0 27 (dk_at dksX1_addContent_1 0 rfl rfl)
theorem dX1_addContent_26 : decode cX1_addContent 26 = .ok (.new 75, 3) := dk_187 0 75 (dk_at dksX1_addContent_1 3 rfl rfl)
theorem dX1_addContent_29 : decode cX1_addContent 29 = .ok (.dup, 1) := dk_89 (dk_at dksX1_addContent_1 6 rfl rfl)
theorem dX1_addContent_30 : decode cX1_addContent 30 = .ok (.aload_n 0, 1) := dk_42 (dk_at dksX1_addContent_1 7 rfl rfl)
theorem dX1_addContent_31 : decode cX1_addContent 31 = .ok (.getfield 27, 3) := dk_180 0 27 (dk_at dksX1_addContent_1 8 rfl rfl)
theorem dX1_addContent_34 : decode cX1_addContent 34 = .ok (.invokeinterface 61 1, 5) := by decide +kernel
theorem dX1_addContent_39 : decode cX1_addContent 39 = .ok (.invokespecial 100, 3) := dk_183 0 100 (dk_at dksX1_addContent_1 16 rfl rfl)
theorem dX1_addContent_42 : decode cX1_addContent 42 = .ok (.invokeinterface 103 2, 5) := by decide +kernel
theorem dX1_addContent_47 : decode cX1_addContent 47 = .ok (.pop, 1) := dk_87 (dk_at dksX1_addContent_2 0 rfl rfl)
theorem dX1_addContent_48 : decode cX1_addContent 48 = .ok (.aload_n 0, 1) := dk_42 (dk_at dksX1_addContent_2 1 rfl rfl)
theorem dX1_addContent_49 : decode cX1_addContent 49 = .ok (.getfield 27, 3) := dk_180 0 27 (dk_at dksX1_addContent_2 2 rfl rfl)
theorem dX1_addContent_52 : decode cX1_addContent 52 = .ok (.invokeinterface 61 1, 5) := by decide +kernel
theorem dX1_addContent_57 : decode cX1_addContent 57 = .ok (.iconst 1, 1) := dk_4 (dk_at dksX1_addContent_2 10 rfl rfl)
theorem dX1_addContent_58 : decode cX1_addContent 58 = .ok (.isub, 1) := dk_100 (dk_at dksX1_addContent_2 11 rfl rfl)
theorem dX1_addContent_59 : decode cX1_addContent 59 = .ok (.ireturn, 1) := dk_172 (dk_at dksX1_addContent_2 12 rfl rfl)
abbrev cX1_requireState : ByteArray := prog_1_method_3_code
def yX1_requireState : MethodName := ⟨RX1, "requireState", "(Z)V"⟩
def dkwX1_requireState_0 : List UInt8 := [26, 154, 0, 11, 187, 0, 12, 89, 183, 0, 14, 191, 177]
abbrev dktX1_requireState_0 : List UInt8 := dkwX1_requireState_0 ++ []
theorem dksX1_requireState_0 : cX1_requireState.data.toList.drop 0 = dktX1_requireState_0 := by decide +kernel
theorem dX1_requireState_0 : decode cX1_requireState 0 = .ok (.iload_n 0, 1) := dk_26 (dk_at dksX1_requireState_0 0 rfl rfl)
theorem dX1_requireState_1 : decode cX1_requireState 1 = .ok (.ifCond .ne 11, 3) := dk_154 0 11 (dk_at dksX1_requireState_0 1 rfl rfl)
theorem dX1_requireState_4 : decode cX1_requireState 4 = .ok (.new 12, 3) := dk_187 0 12 (dk_at dksX1_requireState_0 4 rfl rfl)
theorem dX1_requireState_7 : decode cX1_requireState 7 = .ok (.dup, 1) := dk_89 (dk_at dksX1_requireState_0 7 rfl rfl)
theorem dX1_requireState_8 : decode cX1_requireState 8 = .ok (.invokespecial 14, 3) := dk_183 0 14 (dk_at dksX1_requireState_0 8 rfl rfl)
theorem dX1_requireState_11 : decode cX1_requireState 11 = .ok (.athrow, 1) := dk_191 (dk_at dksX1_requireState_0 11 rfl rfl)
theorem dX1_requireState_12 : decode cX1_requireState 12 = .ok (.return_, 1) := dk_177 (dk_at dksX1_requireState_0 12 rfl rfl)
abbrev cX1_approve : ByteArray := prog_1_method_12_code
def yX1_approve : MethodName := ⟨RX1, "approve", "(I)Z"⟩
def dkwX1_approve_0 : List UInt8 := [42, 27, 182, 0, 107, 77, 44, 180, 0, 111, 62, 44, 4, 181, 0, 111, 29, 172]
abbrev dktX1_approve_0 : List UInt8 := dkwX1_approve_0 ++ []
theorem dksX1_approve_0 : cX1_approve.data.toList.drop 0 = dktX1_approve_0 := by decide +kernel
theorem dX1_approve_0 : decode cX1_approve 0 = .ok (.aload_n 0, 1) := dk_42 (dk_at dksX1_approve_0 0 rfl rfl)
theorem dX1_approve_1 : decode cX1_approve 1 = .ok (.iload_n 1, 1) := dk_27 (dk_at dksX1_approve_0 1 rfl rfl)
theorem dX1_approve_2 : decode cX1_approve 2 = .ok (.invokevirtual 107, 3) := dk_182 0 107 (dk_at dksX1_approve_0 2 rfl rfl)
theorem dX1_approve_5 : decode cX1_approve 5 = .ok (.astore_n 2, 1) := dk_77 (dk_at dksX1_approve_0 5 rfl rfl)
theorem dX1_approve_6 : decode cX1_approve 6 = .ok (.aload_n 2, 1) := dk_44 (dk_at dksX1_approve_0 6 rfl rfl)
theorem dX1_approve_7 : decode cX1_approve 7 = .ok (.getfield 111, 3) := dk_180 0 111 (dk_at dksX1_approve_0 7 rfl rfl)
theorem dX1_approve_10 : decode cX1_approve 10 = .ok (.istore_n 3, 1) := dk_62 (dk_at dksX1_approve_0 10 rfl rfl)
theorem dX1_approve_11 : decode cX1_approve 11 = .ok (.aload_n 2, 1) := dk_44 (dk_at dksX1_approve_0 11 rfl rfl)
theorem dX1_approve_12 : decode cX1_approve 12 = .ok (.iconst 1, 1) := dk_4 (dk_at dksX1_approve_0 12 rfl rfl)
theorem dX1_approve_13 : decode cX1_approve 13 = .ok (.putfield 111, 3) := dk_181 0 111 (dk_at dksX1_approve_0 13 rfl rfl)
theorem dX1_approve_16 : decode cX1_approve 16 = .ok (.iload_n 3, 1) := dk_29 (dk_at dksX1_approve_0 16 rfl rfl)
theorem dX1_approve_17 : decode cX1_approve 17 = .ok (.ireturn, 1) := dk_172 (dk_at dksX1_approve_0 17 rfl rfl)
abbrev cX1_contentNumbered : ByteArray := prog_1_method_7_code
def yX1_contentNumbered : MethodName := ⟨RX1, "contentNumbered", "(I)LBinderyDesk$Content;"⟩
def dkwX1_contentNumbered_1 : List UInt8 := [192, 0, 75, 176]
abbrev dktX1_contentNumbered_1 : List UInt8 := dkwX1_contentNumbered_1 ++ []
def dkwX1_contentNumbered_0 : List UInt8 := [27, 42, 180, 0, 27, 185, 0, 61, 1, 0, 184, 0, 67, 42, 180, 0, 27, 27, 185, 0, 71, 2, 0]
abbrev dktX1_contentNumbered_0 : List UInt8 := dkwX1_contentNumbered_0 ++ dktX1_contentNumbered_1
theorem dksX1_contentNumbered_0 : cX1_contentNumbered.data.toList.drop 0 = dktX1_contentNumbered_0 := by decide +kernel
theorem dksX1_contentNumbered_1 : cX1_contentNumbered.data.toList.drop 23 = dktX1_contentNumbered_1 := dk_seg dksX1_contentNumbered_0 23 rfl rfl
theorem dX1_contentNumbered_0 : decode cX1_contentNumbered 0 = .ok (.iload_n 1, 1) := dk_27 (dk_at dksX1_contentNumbered_0 0 rfl rfl)
theorem dX1_contentNumbered_1 : decode cX1_contentNumbered 1 = .ok (.aload_n 0, 1) := dk_42 (dk_at dksX1_contentNumbered_0 1 rfl rfl)
theorem dX1_contentNumbered_2 : decode cX1_contentNumbered 2 = .ok (.getfield 27, 3) := dk_180 0 27 (dk_at dksX1_contentNumbered_0 2 rfl rfl)
theorem dX1_contentNumbered_5 : decode cX1_contentNumbered 5 = .ok (.invokeinterface 61 1, 5) := by decide +kernel
theorem dX1_contentNumbered_10 : decode cX1_contentNumbered 10 = .ok (.invokestatic 67, 3) := dk_184 0 67 (dk_at dksX1_contentNumbered_0 10 rfl rfl)
theorem dX1_contentNumbered_13 : decode cX1_contentNumbered 13 = .ok (.aload_n 0, 1) := dk_42 (dk_at dksX1_contentNumbered_0 13 rfl rfl)
theorem dX1_contentNumbered_14 : decode cX1_contentNumbered 14 = .ok (.getfield 27, 3) := dk_180 0 27 (dk_at dksX1_contentNumbered_0 14 rfl rfl)
theorem dX1_contentNumbered_17 : decode cX1_contentNumbered 17 = .ok (.iload_n 1, 1) := dk_27 (dk_at dksX1_contentNumbered_0 17 rfl rfl)
theorem dX1_contentNumbered_18 : decode cX1_contentNumbered 18 = .ok (.invokeinterface 71 2, 5) := by decide +kernel
theorem dX1_contentNumbered_23 : decode cX1_contentNumbered 23 = .ok (.checkcast 75, 3) := dk_192 0 75 (dk_at dksX1_contentNumbered_1 0 rfl rfl)
theorem dX1_contentNumbered_26 : decode cX1_contentNumbered 26 = .ok (.areturn, 1) := dk_176 (dk_at dksX1_contentNumbered_1 3 rfl rfl)
abbrev cX1_requireIndex : ByteArray := prog_1_method_1_code
def yX1_requireIndex : MethodName := ⟨RX1, "requireIndex", "(II)V"⟩
def dkwX1_requireIndex_0 : List UInt8 := [26, 155, 0, 8, 26, 27, 161, 0, 11, 187, 0, 3, 89, 183, 0, 5, 191, 177]
abbrev dktX1_requireIndex_0 : List UInt8 := dkwX1_requireIndex_0 ++ []
theorem dksX1_requireIndex_0 : cX1_requireIndex.data.toList.drop 0 = dktX1_requireIndex_0 := by decide +kernel
theorem dX1_requireIndex_0 : decode cX1_requireIndex 0 = .ok (.iload_n 0, 1) := dk_26 (dk_at dksX1_requireIndex_0 0 rfl rfl)
theorem dX1_requireIndex_1 : decode cX1_requireIndex 1 = .ok (.ifCond .lt 8, 3) := dk_155 0 8 (dk_at dksX1_requireIndex_0 1 rfl rfl)
theorem dX1_requireIndex_4 : decode cX1_requireIndex 4 = .ok (.iload_n 0, 1) := dk_26 (dk_at dksX1_requireIndex_0 4 rfl rfl)
theorem dX1_requireIndex_5 : decode cX1_requireIndex 5 = .ok (.iload_n 1, 1) := dk_27 (dk_at dksX1_requireIndex_0 5 rfl rfl)
theorem dX1_requireIndex_6 : decode cX1_requireIndex 6 = .ok (.if_icmp .lt 11, 3) := dk_161 0 11 (dk_at dksX1_requireIndex_0 6 rfl rfl)
theorem dX1_requireIndex_9 : decode cX1_requireIndex 9 = .ok (.new 3, 3) := dk_187 0 3 (dk_at dksX1_requireIndex_0 9 rfl rfl)
theorem dX1_requireIndex_12 : decode cX1_requireIndex 12 = .ok (.dup, 1) := dk_89 (dk_at dksX1_requireIndex_0 12 rfl rfl)
theorem dX1_requireIndex_13 : decode cX1_requireIndex 13 = .ok (.invokespecial 5, 3) := dk_183 0 5 (dk_at dksX1_requireIndex_0 13 rfl rfl)
theorem dX1_requireIndex_16 : decode cX1_requireIndex 16 = .ok (.athrow, 1) := dk_191 (dk_at dksX1_requireIndex_0 16 rfl rfl)
theorem dX1_requireIndex_17 : decode cX1_requireIndex 17 = .ok (.return_, 1) := dk_177 (dk_at dksX1_requireIndex_0 17 rfl rfl)
abbrev cX1_correct : ByteArray := prog_1_method_13_code
def yX1_correct : MethodName := ⟨RX1, "correct", "(I)I"⟩
def dkwX1_correct_4 : List UInt8 := [182, 0, 137, 96, 62, 167, 255, 225, 42, 180, 0, 54, 29, 182, 0, 141, 29, 172]
abbrev dktX1_correct_4 : List UInt8 := dkwX1_correct_4 ++ []
def dkwX1_correct_3 : List UInt8 := [185, 0, 128, 1, 0, 153, 0, 27, 25, 4, 185, 0, 133, 1, 0, 192, 0, 77, 58, 5, 29, 25, 5, 44]
abbrev dktX1_correct_3 : List UInt8 := dkwX1_correct_3 ++ dktX1_correct_4
def dkwX1_correct_2 : List UInt8 := [183, 0, 121, 185, 0, 103, 2, 0, 87, 3, 62, 42, 180, 0, 31, 185, 0, 124, 1, 0, 58, 4, 25, 4]
abbrev dktX1_correct_2 : List UInt8 := dkwX1_correct_2 ++ dktX1_correct_3
def dkwX1_correct_1 : List UInt8 := [89, 180, 0, 115, 4, 96, 181, 0, 115, 44, 3, 181, 0, 111, 42, 180, 0, 34, 187, 0, 119, 89, 44]
abbrev dktX1_correct_1 : List UInt8 := dkwX1_correct_1 ++ dktX1_correct_2
def dkwX1_correct_0 : List UInt8 := [42, 27, 182, 0, 107, 77, 44, 180, 0, 115, 16, 99, 162, 0, 7, 4, 167, 0, 4, 3, 184, 0, 87, 44]
abbrev dktX1_correct_0 : List UInt8 := dkwX1_correct_0 ++ dktX1_correct_1
theorem dksX1_correct_0 : cX1_correct.data.toList.drop 0 = dktX1_correct_0 := by decide +kernel
theorem dksX1_correct_1 : cX1_correct.data.toList.drop 24 = dktX1_correct_1 := dk_seg dksX1_correct_0 24 rfl rfl
theorem dksX1_correct_2 : cX1_correct.data.toList.drop 47 = dktX1_correct_2 := dk_seg dksX1_correct_1 23 rfl rfl
theorem dksX1_correct_3 : cX1_correct.data.toList.drop 71 = dktX1_correct_3 := dk_seg dksX1_correct_2 24 rfl rfl
theorem dksX1_correct_4 : cX1_correct.data.toList.drop 95 = dktX1_correct_4 := dk_seg dksX1_correct_3 24 rfl rfl
theorem dX1_correct_0 : decode cX1_correct 0 = .ok (.aload_n 0, 1) := dk_42 (dk_at dksX1_correct_0 0 rfl rfl)
theorem dX1_correct_1 : decode cX1_correct 1 = .ok (.iload_n 1, 1) := dk_27 (dk_at dksX1_correct_0 1 rfl rfl)
theorem dX1_correct_2 : decode cX1_correct 2 = .ok (.invokevirtual 107, 3) := dk_182 0 107 (dk_at dksX1_correct_0 2 rfl rfl)
theorem dX1_correct_5 : decode cX1_correct 5 = .ok (.astore_n 2, 1) := dk_77 (dk_at dksX1_correct_0 5 rfl rfl)
theorem dX1_correct_6 : decode cX1_correct 6 = .ok (.aload_n 2, 1) := dk_44 (dk_at dksX1_correct_0 6 rfl rfl)
theorem dX1_correct_7 : decode cX1_correct 7 = .ok (.getfield 115, 3) := dk_180 0 115 (dk_at dksX1_correct_0 7 rfl rfl)
theorem dX1_correct_10 : decode cX1_correct 10 = .ok (.bipush 99, 2) := dk_16 99 (dk_at dksX1_correct_0 10 rfl rfl)
theorem dX1_correct_12 : decode cX1_correct 12 = .ok (.if_icmp .ge 7, 3) := dk_162 0 7 (dk_at dksX1_correct_0 12 rfl rfl)
theorem dX1_correct_15 : decode cX1_correct 15 = .ok (.iconst 1, 1) := dk_4 (dk_at dksX1_correct_0 15 rfl rfl)
theorem dX1_correct_16 : decode cX1_correct 16 = .ok (.goto 4, 3) := dk_167 0 4 (dk_at dksX1_correct_0 16 rfl rfl)
theorem dX1_correct_19 : decode cX1_correct 19 = .ok (.iconst 0, 1) := dk_3 (dk_at dksX1_correct_0 19 rfl rfl)
theorem dX1_correct_20 : decode cX1_correct 20 = .ok (.invokestatic 87, 3) := dk_184 0 87 (dk_at dksX1_correct_0 20 rfl rfl)
theorem dX1_correct_23 : decode cX1_correct 23 = .ok (.aload_n 2, 1) := dk_44 (dk_at dksX1_correct_0 23 rfl rfl)
theorem dX1_correct_24 : decode cX1_correct 24 = .ok (.dup, 1) := dk_89 (dk_at dksX1_correct_1 0 rfl rfl)
theorem dX1_correct_25 : decode cX1_correct 25 = .ok (.getfield 115, 3) := dk_180 0 115 (dk_at dksX1_correct_1 1 rfl rfl)
theorem dX1_correct_28 : decode cX1_correct 28 = .ok (.iconst 1, 1) := dk_4 (dk_at dksX1_correct_1 4 rfl rfl)
theorem dX1_correct_29 : decode cX1_correct 29 = .ok (.iadd, 1) := dk_96 (dk_at dksX1_correct_1 5 rfl rfl)
theorem dX1_correct_30 : decode cX1_correct 30 = .ok (.putfield 115, 3) := dk_181 0 115 (dk_at dksX1_correct_1 6 rfl rfl)
theorem dX1_correct_33 : decode cX1_correct 33 = .ok (.aload_n 2, 1) := dk_44 (dk_at dksX1_correct_1 9 rfl rfl)
theorem dX1_correct_34 : decode cX1_correct 34 = .ok (.iconst 0, 1) := dk_3 (dk_at dksX1_correct_1 10 rfl rfl)
theorem dX1_correct_35 : decode cX1_correct 35 = .ok (.putfield 111, 3) := dk_181 0 111 (dk_at dksX1_correct_1 11 rfl rfl)
theorem dX1_correct_38 : decode cX1_correct 38 = .ok (.aload_n 0, 1) := dk_42 (dk_at dksX1_correct_1 14 rfl rfl)
theorem dX1_correct_39 : decode cX1_correct 39 = .ok (.getfield 34, 3) := dk_180 0 34 (dk_at dksX1_correct_1 15 rfl rfl)
theorem dX1_correct_42 : decode cX1_correct 42 = .ok (.new 119, 3) := dk_187 0 119 (dk_at dksX1_correct_1 18 rfl rfl)
theorem dX1_correct_45 : decode cX1_correct 45 = .ok (.dup, 1) := dk_89 (dk_at dksX1_correct_1 21 rfl rfl)
theorem dX1_correct_46 : decode cX1_correct 46 = .ok (.aload_n 2, 1) := dk_44 (dk_at dksX1_correct_1 22 rfl rfl)
theorem dX1_correct_47 : decode cX1_correct 47 = .ok (.invokespecial 121, 3) := dk_183 0 121 (dk_at dksX1_correct_2 0 rfl rfl)
theorem dX1_correct_50 : decode cX1_correct 50 = .ok (.invokeinterface 103 2, 5) := by decide +kernel
theorem dX1_correct_55 : decode cX1_correct 55 = .ok (.pop, 1) := dk_87 (dk_at dksX1_correct_2 8 rfl rfl)
theorem dX1_correct_56 : decode cX1_correct 56 = .ok (.iconst 0, 1) := dk_3 (dk_at dksX1_correct_2 9 rfl rfl)
theorem dX1_correct_57 : decode cX1_correct 57 = .ok (.istore_n 3, 1) := dk_62 (dk_at dksX1_correct_2 10 rfl rfl)
theorem dX1_correct_58 : decode cX1_correct 58 = .ok (.aload_n 0, 1) := dk_42 (dk_at dksX1_correct_2 11 rfl rfl)
theorem dX1_correct_59 : decode cX1_correct 59 = .ok (.getfield 31, 3) := dk_180 0 31 (dk_at dksX1_correct_2 12 rfl rfl)
theorem dX1_correct_62 : decode cX1_correct 62 = .ok (.invokeinterface 124 1, 5) := by decide +kernel
theorem dX1_correct_67 : decode cX1_correct 67 = .ok (.astore 4, 2) := dk_58 4 (dk_at dksX1_correct_2 20 rfl rfl)
theorem dX1_correct_69 : decode cX1_correct 69 = .ok (.aload 4, 2) := dk_25 4 (dk_at dksX1_correct_2 22 rfl rfl)
theorem dX1_correct_71 : decode cX1_correct 71 = .ok (.invokeinterface 128 1, 5) := by decide +kernel
theorem dX1_correct_76 : decode cX1_correct 76 = .ok (.ifCond .eq 27, 3) := dk_153 0 27 (dk_at dksX1_correct_3 5 rfl rfl)
theorem dX1_correct_79 : decode cX1_correct 79 = .ok (.aload 4, 2) := dk_25 4 (dk_at dksX1_correct_3 8 rfl rfl)
theorem dX1_correct_81 : decode cX1_correct 81 = .ok (.invokeinterface 133 1, 5) := by decide +kernel
theorem dX1_correct_86 : decode cX1_correct 86 = .ok (.checkcast 77, 3) := dk_192 0 77 (dk_at dksX1_correct_3 15 rfl rfl)
theorem dX1_correct_89 : decode cX1_correct 89 = .ok (.astore 5, 2) := dk_58 5 (dk_at dksX1_correct_3 18 rfl rfl)
theorem dX1_correct_91 : decode cX1_correct 91 = .ok (.iload_n 3, 1) := dk_29 (dk_at dksX1_correct_3 20 rfl rfl)
theorem dX1_correct_92 : decode cX1_correct 92 = .ok (.aload 5, 2) := dk_25 5 (dk_at dksX1_correct_3 21 rfl rfl)
theorem dX1_correct_94 : decode cX1_correct 94 = .ok (.aload_n 2, 1) := dk_44 (dk_at dksX1_correct_3 23 rfl rfl)
theorem dX1_correct_95 : decode cX1_correct 95 = .ok (.invokevirtual 137, 3) := dk_182 0 137 (dk_at dksX1_correct_4 0 rfl rfl)
theorem dX1_correct_98 : decode cX1_correct 98 = .ok (.iadd, 1) := dk_96 (dk_at dksX1_correct_4 3 rfl rfl)
theorem dX1_correct_99 : decode cX1_correct 99 = .ok (.istore_n 3, 1) := dk_62 (dk_at dksX1_correct_4 4 rfl rfl)
theorem dX1_correct_100 : decode cX1_correct 100 = .ok (.goto (-31), 3) := dk_167 255 225 (dk_at dksX1_correct_4 5 rfl rfl)
theorem dX1_correct_103 : decode cX1_correct 103 = .ok (.aload_n 0, 1) := dk_42 (dk_at dksX1_correct_4 8 rfl rfl)
theorem dX1_correct_104 : decode cX1_correct 104 = .ok (.getfield 54, 3) := dk_180 0 54 (dk_at dksX1_correct_4 9 rfl rfl)
theorem dX1_correct_107 : decode cX1_correct 107 = .ok (.iload_n 3, 1) := dk_29 (dk_at dksX1_correct_4 12 rfl rfl)
theorem dX1_correct_108 : decode cX1_correct 108 = .ok (.invokevirtual 141, 3) := dk_182 0 141 (dk_at dksX1_correct_4 13 rfl rfl)
theorem dX1_correct_111 : decode cX1_correct 111 = .ok (.iload_n 3, 1) := dk_29 (dk_at dksX1_correct_4 16 rfl rfl)
theorem dX1_correct_112 : decode cX1_correct 112 = .ok (.ireturn, 1) := dk_172 (dk_at dksX1_correct_4 17 rfl rfl)
abbrev cX1_state : ByteArray := prog_1_method_14_code
def yX1_state : MethodName := ⟨RX1, "state", "(I)I"⟩
def dkwX1_state_0 : List UInt8 := [42, 27, 182, 0, 107, 180, 0, 115, 172]
abbrev dktX1_state_0 : List UInt8 := dkwX1_state_0 ++ []
theorem dksX1_state_0 : cX1_state.data.toList.drop 0 = dktX1_state_0 := by decide +kernel
theorem dX1_state_0 : decode cX1_state 0 = .ok (.aload_n 0, 1) := dk_42 (dk_at dksX1_state_0 0 rfl rfl)
theorem dX1_state_1 : decode cX1_state 1 = .ok (.iload_n 1, 1) := dk_27 (dk_at dksX1_state_0 1 rfl rfl)
theorem dX1_state_2 : decode cX1_state 2 = .ok (.invokevirtual 107, 3) := dk_182 0 107 (dk_at dksX1_state_0 2 rfl rfl)
theorem dX1_state_5 : decode cX1_state 5 = .ok (.getfield 115, 3) := dk_180 0 115 (dk_at dksX1_state_0 5 rfl rfl)
theorem dX1_state_8 : decode cX1_state 8 = .ok (.ireturn, 1) := dk_172 (dk_at dksX1_state_0 8 rfl rfl)
abbrev cX1_addJob : ByteArray := prog_1_method_15_code
def yX1_addJob : MethodName := ⟨RX1, "addJob", "(C)I"⟩
def dkwX1_addJob_2 : List UInt8 := [87, 42, 180, 0, 31, 185, 0, 61, 1, 0, 4, 100, 172]
abbrev dktX1_addJob_2 : List UInt8 := dkwX1_addJob_2 ++ []
def dkwX1_addJob_1 : List UInt8 := [184, 0, 87, 42, 180, 0, 31, 187, 0, 77, 89, 44, 42, 180, 0, 50, 183, 0, 149, 185, 0, 103, 2, 0]
abbrev dktX1_addJob_1 : List UInt8 := dkwX1_addJob_1 ++ dktX1_addJob_2
def dkwX1_addJob_0 : List UInt8 := [27, 184, 0, 143, 77, 42, 180, 0, 31, 185, 0, 61, 1, 0, 7, 162, 0, 7, 4, 167, 0, 4, 3]
abbrev dktX1_addJob_0 : List UInt8 := dkwX1_addJob_0 ++ dktX1_addJob_1
theorem dksX1_addJob_0 : cX1_addJob.data.toList.drop 0 = dktX1_addJob_0 := by decide +kernel
theorem dksX1_addJob_1 : cX1_addJob.data.toList.drop 23 = dktX1_addJob_1 := dk_seg dksX1_addJob_0 23 rfl rfl
theorem dksX1_addJob_2 : cX1_addJob.data.toList.drop 47 = dktX1_addJob_2 := dk_seg dksX1_addJob_1 24 rfl rfl
theorem dX1_addJob_0 : decode cX1_addJob 0 = .ok (.iload_n 1, 1) := dk_27 (dk_at dksX1_addJob_0 0 rfl rfl)
theorem dX1_addJob_1 : decode cX1_addJob 1 = .ok (.invokestatic 143, 3) := dk_184 0 143 (dk_at dksX1_addJob_0 1 rfl rfl)
theorem dX1_addJob_4 : decode cX1_addJob 4 = .ok (.astore_n 2, 1) := dk_77 (dk_at dksX1_addJob_0 4 rfl rfl)
theorem dX1_addJob_5 : decode cX1_addJob 5 = .ok (.aload_n 0, 1) := dk_42 (dk_at dksX1_addJob_0 5 rfl rfl)
theorem dX1_addJob_6 : decode cX1_addJob 6 = .ok (.getfield 31, 3) := dk_180 0 31 (dk_at dksX1_addJob_0 6 rfl rfl)
theorem dX1_addJob_9 : decode cX1_addJob 9 = .ok (.invokeinterface 61 1, 5) := by decide +kernel
theorem dX1_addJob_14 : decode cX1_addJob 14 = .ok (.iconst 4, 1) := dk_7 (dk_at dksX1_addJob_0 14 rfl rfl)
theorem dX1_addJob_15 : decode cX1_addJob 15 = .ok (.if_icmp .ge 7, 3) := dk_162 0 7 (dk_at dksX1_addJob_0 15 rfl rfl)
theorem dX1_addJob_18 : decode cX1_addJob 18 = .ok (.iconst 1, 1) := dk_4 (dk_at dksX1_addJob_0 18 rfl rfl)
theorem dX1_addJob_19 : decode cX1_addJob 19 = .ok (.goto 4, 3) := dk_167 0 4 (dk_at dksX1_addJob_0 19 rfl rfl)
theorem dX1_addJob_22 : decode cX1_addJob 22 = .ok (.iconst 0, 1) := dk_3 (dk_at dksX1_addJob_0 22 rfl rfl)
theorem dX1_addJob_23 : decode cX1_addJob 23 = .ok (.invokestatic 87, 3) := dk_184 0 87 (dk_at dksX1_addJob_1 0 rfl rfl)
theorem dX1_addJob_26 : decode cX1_addJob 26 = .ok (.aload_n 0, 1) := dk_42 (dk_at dksX1_addJob_1 3 rfl rfl)
theorem dX1_addJob_27 : decode cX1_addJob 27 = .ok (.getfield 31, 3) := dk_180 0 31 (dk_at dksX1_addJob_1 4 rfl rfl)
theorem dX1_addJob_30 : decode cX1_addJob 30 = .ok (.new 77, 3) := dk_187 0 77 (dk_at dksX1_addJob_1 7 rfl rfl)
theorem dX1_addJob_33 : decode cX1_addJob 33 = .ok (.dup, 1) := dk_89 (dk_at dksX1_addJob_1 10 rfl rfl)
theorem dX1_addJob_34 : decode cX1_addJob 34 = .ok (.aload_n 2, 1) := dk_44 (dk_at dksX1_addJob_1 11 rfl rfl)
theorem dX1_addJob_35 : decode cX1_addJob 35 = .ok (.aload_n 0, 1) := dk_42 (dk_at dksX1_addJob_1 12 rfl rfl)
theorem dX1_addJob_36 : decode cX1_addJob 36 = .ok (.getfield 50, 3) := dk_180 0 50 (dk_at dksX1_addJob_1 13 rfl rfl)
theorem dX1_addJob_39 : decode cX1_addJob 39 = .ok (.invokespecial 149, 3) := dk_183 0 149 (dk_at dksX1_addJob_1 16 rfl rfl)
theorem dX1_addJob_42 : decode cX1_addJob 42 = .ok (.invokeinterface 103 2, 5) := by decide +kernel
theorem dX1_addJob_47 : decode cX1_addJob 47 = .ok (.pop, 1) := dk_87 (dk_at dksX1_addJob_2 0 rfl rfl)
theorem dX1_addJob_48 : decode cX1_addJob 48 = .ok (.aload_n 0, 1) := dk_42 (dk_at dksX1_addJob_2 1 rfl rfl)
theorem dX1_addJob_49 : decode cX1_addJob 49 = .ok (.getfield 31, 3) := dk_180 0 31 (dk_at dksX1_addJob_2 2 rfl rfl)
theorem dX1_addJob_52 : decode cX1_addJob 52 = .ok (.invokeinterface 61 1, 5) := by decide +kernel
theorem dX1_addJob_57 : decode cX1_addJob 57 = .ok (.iconst 1, 1) := dk_4 (dk_at dksX1_addJob_2 10 rfl rfl)
theorem dX1_addJob_58 : decode cX1_addJob 58 = .ok (.isub, 1) := dk_100 (dk_at dksX1_addJob_2 11 rfl rfl)
theorem dX1_addJob_59 : decode cX1_addJob 59 = .ok (.ireturn, 1) := dk_172 (dk_at dksX1_addJob_2 12 rfl rfl)
abbrev cX1_addPage : ByteArray := prog_1_method_16_code
def yX1_addPage : MethodName := ⟨RX1, "addPage", "(II)I"⟩
def dkwX1_addPage_2 : List UInt8 := [180, 0, 152, 25, 4, 185, 0, 103, 2, 0, 87, 45, 180, 0, 152, 185, 0, 61, 1, 0, 172]
abbrev dktX1_addPage_2 : List UInt8 := dkwX1_addPage_2 ++ []
def dkwX1_addPage_1 : List UInt8 := [162, 0, 7, 4, 167, 0, 4, 3, 184, 0, 87, 42, 180, 0, 54, 45, 1, 182, 0, 137, 182, 0, 141, 45]
abbrev dktX1_addPage_1 : List UInt8 := dkwX1_addPage_1 ++ dktX1_addPage_2
def dkwX1_addPage_0 : List UInt8 := [42, 27, 182, 0, 79, 78, 42, 28, 182, 0, 107, 58, 4, 45, 180, 0, 152, 185, 0, 61, 1, 0, 16, 16]
abbrev dktX1_addPage_0 : List UInt8 := dkwX1_addPage_0 ++ dktX1_addPage_1
theorem dksX1_addPage_0 : cX1_addPage.data.toList.drop 0 = dktX1_addPage_0 := by decide +kernel
theorem dksX1_addPage_1 : cX1_addPage.data.toList.drop 24 = dktX1_addPage_1 := dk_seg dksX1_addPage_0 24 rfl rfl
theorem dksX1_addPage_2 : cX1_addPage.data.toList.drop 48 = dktX1_addPage_2 := dk_seg dksX1_addPage_1 24 rfl rfl
theorem dX1_addPage_0 : decode cX1_addPage 0 = .ok (.aload_n 0, 1) := dk_42 (dk_at dksX1_addPage_0 0 rfl rfl)
theorem dX1_addPage_1 : decode cX1_addPage 1 = .ok (.iload_n 1, 1) := dk_27 (dk_at dksX1_addPage_0 1 rfl rfl)
theorem dX1_addPage_2 : decode cX1_addPage 2 = .ok (.invokevirtual 79, 3) := dk_182 0 79 (dk_at dksX1_addPage_0 2 rfl rfl)
theorem dX1_addPage_5 : decode cX1_addPage 5 = .ok (.astore_n 3, 1) := dk_78 (dk_at dksX1_addPage_0 5 rfl rfl)
theorem dX1_addPage_6 : decode cX1_addPage 6 = .ok (.aload_n 0, 1) := dk_42 (dk_at dksX1_addPage_0 6 rfl rfl)
theorem dX1_addPage_7 : decode cX1_addPage 7 = .ok (.iload_n 2, 1) := dk_28 (dk_at dksX1_addPage_0 7 rfl rfl)
theorem dX1_addPage_8 : decode cX1_addPage 8 = .ok (.invokevirtual 107, 3) := dk_182 0 107 (dk_at dksX1_addPage_0 8 rfl rfl)
theorem dX1_addPage_11 : decode cX1_addPage 11 = .ok (.astore 4, 2) := dk_58 4 (dk_at dksX1_addPage_0 11 rfl rfl)
theorem dX1_addPage_13 : decode cX1_addPage 13 = .ok (.aload_n 3, 1) := dk_45 (dk_at dksX1_addPage_0 13 rfl rfl)
theorem dX1_addPage_14 : decode cX1_addPage 14 = .ok (.getfield 152, 3) := dk_180 0 152 (dk_at dksX1_addPage_0 14 rfl rfl)
theorem dX1_addPage_17 : decode cX1_addPage 17 = .ok (.invokeinterface 61 1, 5) := by decide +kernel
theorem dX1_addPage_22 : decode cX1_addPage 22 = .ok (.bipush 16, 2) := dk_16 16 (dk_at dksX1_addPage_0 22 rfl rfl)
theorem dX1_addPage_24 : decode cX1_addPage 24 = .ok (.if_icmp .ge 7, 3) := dk_162 0 7 (dk_at dksX1_addPage_1 0 rfl rfl)
theorem dX1_addPage_27 : decode cX1_addPage 27 = .ok (.iconst 1, 1) := dk_4 (dk_at dksX1_addPage_1 3 rfl rfl)
theorem dX1_addPage_28 : decode cX1_addPage 28 = .ok (.goto 4, 3) := dk_167 0 4 (dk_at dksX1_addPage_1 4 rfl rfl)
theorem dX1_addPage_31 : decode cX1_addPage 31 = .ok (.iconst 0, 1) := dk_3 (dk_at dksX1_addPage_1 7 rfl rfl)
theorem dX1_addPage_32 : decode cX1_addPage 32 = .ok (.invokestatic 87, 3) := dk_184 0 87 (dk_at dksX1_addPage_1 8 rfl rfl)
theorem dX1_addPage_35 : decode cX1_addPage 35 = .ok (.aload_n 0, 1) := dk_42 (dk_at dksX1_addPage_1 11 rfl rfl)
theorem dX1_addPage_36 : decode cX1_addPage 36 = .ok (.getfield 54, 3) := dk_180 0 54 (dk_at dksX1_addPage_1 12 rfl rfl)
theorem dX1_addPage_39 : decode cX1_addPage 39 = .ok (.aload_n 3, 1) := dk_45 (dk_at dksX1_addPage_1 15 rfl rfl)
theorem dX1_addPage_40 : decode cX1_addPage 40 = .ok (.aconst_null, 1) := dk_1 (dk_at dksX1_addPage_1 16 rfl rfl)
theorem dX1_addPage_41 : decode cX1_addPage 41 = .ok (.invokevirtual 137, 3) := dk_182 0 137 (dk_at dksX1_addPage_1 17 rfl rfl)
theorem dX1_addPage_44 : decode cX1_addPage 44 = .ok (.invokevirtual 141, 3) := dk_182 0 141 (dk_at dksX1_addPage_1 20 rfl rfl)
theorem dX1_addPage_47 : decode cX1_addPage 47 = .ok (.aload_n 3, 1) := dk_45 (dk_at dksX1_addPage_1 23 rfl rfl)
theorem dX1_addPage_48 : decode cX1_addPage 48 = .ok (.getfield 152, 3) := dk_180 0 152 (dk_at dksX1_addPage_2 0 rfl rfl)
theorem dX1_addPage_51 : decode cX1_addPage 51 = .ok (.aload 4, 2) := dk_25 4 (dk_at dksX1_addPage_2 3 rfl rfl)
theorem dX1_addPage_53 : decode cX1_addPage 53 = .ok (.invokeinterface 103 2, 5) := by decide +kernel
theorem dX1_addPage_58 : decode cX1_addPage 58 = .ok (.pop, 1) := dk_87 (dk_at dksX1_addPage_2 10 rfl rfl)
theorem dX1_addPage_59 : decode cX1_addPage 59 = .ok (.aload_n 3, 1) := dk_45 (dk_at dksX1_addPage_2 11 rfl rfl)
theorem dX1_addPage_60 : decode cX1_addPage 60 = .ok (.getfield 152, 3) := dk_180 0 152 (dk_at dksX1_addPage_2 12 rfl rfl)
theorem dX1_addPage_63 : decode cX1_addPage 63 = .ok (.invokeinterface 61 1, 5) := by decide +kernel
theorem dX1_addPage_68 : decode cX1_addPage 68 = .ok (.ireturn, 1) := dk_172 (dk_at dksX1_addPage_2 20 rfl rfl)
abbrev cX1_jobNumbered : ByteArray := prog_1_method_8_code
def yX1_jobNumbered : MethodName := ⟨RX1, "jobNumbered", "(I)LBinderyDesk$Job;"⟩
def dkwX1_jobNumbered_1 : List UInt8 := [192, 0, 77, 176]
abbrev dktX1_jobNumbered_1 : List UInt8 := dkwX1_jobNumbered_1 ++ []
def dkwX1_jobNumbered_0 : List UInt8 := [27, 42, 180, 0, 31, 185, 0, 61, 1, 0, 184, 0, 67, 42, 180, 0, 31, 27, 185, 0, 71, 2, 0]
abbrev dktX1_jobNumbered_0 : List UInt8 := dkwX1_jobNumbered_0 ++ dktX1_jobNumbered_1
theorem dksX1_jobNumbered_0 : cX1_jobNumbered.data.toList.drop 0 = dktX1_jobNumbered_0 := by decide +kernel
theorem dksX1_jobNumbered_1 : cX1_jobNumbered.data.toList.drop 23 = dktX1_jobNumbered_1 := dk_seg dksX1_jobNumbered_0 23 rfl rfl
theorem dX1_jobNumbered_0 : decode cX1_jobNumbered 0 = .ok (.iload_n 1, 1) := dk_27 (dk_at dksX1_jobNumbered_0 0 rfl rfl)
theorem dX1_jobNumbered_1 : decode cX1_jobNumbered 1 = .ok (.aload_n 0, 1) := dk_42 (dk_at dksX1_jobNumbered_0 1 rfl rfl)
theorem dX1_jobNumbered_2 : decode cX1_jobNumbered 2 = .ok (.getfield 31, 3) := dk_180 0 31 (dk_at dksX1_jobNumbered_0 2 rfl rfl)
theorem dX1_jobNumbered_5 : decode cX1_jobNumbered 5 = .ok (.invokeinterface 61 1, 5) := by decide +kernel
theorem dX1_jobNumbered_10 : decode cX1_jobNumbered 10 = .ok (.invokestatic 67, 3) := dk_184 0 67 (dk_at dksX1_jobNumbered_0 10 rfl rfl)
theorem dX1_jobNumbered_13 : decode cX1_jobNumbered 13 = .ok (.aload_n 0, 1) := dk_42 (dk_at dksX1_jobNumbered_0 13 rfl rfl)
theorem dX1_jobNumbered_14 : decode cX1_jobNumbered 14 = .ok (.getfield 31, 3) := dk_180 0 31 (dk_at dksX1_jobNumbered_0 14 rfl rfl)
theorem dX1_jobNumbered_17 : decode cX1_jobNumbered 17 = .ok (.iload_n 1, 1) := dk_27 (dk_at dksX1_jobNumbered_0 17 rfl rfl)
theorem dX1_jobNumbered_18 : decode cX1_jobNumbered 18 = .ok (.invokeinterface 71 2, 5) := by decide +kernel
theorem dX1_jobNumbered_23 : decode cX1_jobNumbered 23 = .ok (.checkcast 77, 3) := dk_192 0 77 (dk_at dksX1_jobNumbered_1 0 rfl rfl)
theorem dX1_jobNumbered_26 : decode cX1_jobNumbered 26 = .ok (.areturn, 1) := dk_176 (dk_at dksX1_jobNumbered_1 3 rfl rfl)
abbrev cX1_pages : ByteArray := prog_1_method_17_code
def yX1_pages : MethodName := ⟨RX1, "pages", "(I)I"⟩
def dkwX1_pages_0 : List UInt8 := [42, 27, 182, 0, 79, 180, 0, 152, 185, 0, 61, 1, 0, 172]
abbrev dktX1_pages_0 : List UInt8 := dkwX1_pages_0 ++ []
theorem dksX1_pages_0 : cX1_pages.data.toList.drop 0 = dktX1_pages_0 := by decide +kernel
theorem dX1_pages_0 : decode cX1_pages 0 = .ok (.aload_n 0, 1) := dk_42 (dk_at dksX1_pages_0 0 rfl rfl)
theorem dX1_pages_1 : decode cX1_pages 1 = .ok (.iload_n 1, 1) := dk_27 (dk_at dksX1_pages_0 1 rfl rfl)
theorem dX1_pages_2 : decode cX1_pages 2 = .ok (.invokevirtual 79, 3) := dk_182 0 79 (dk_at dksX1_pages_0 2 rfl rfl)
theorem dX1_pages_5 : decode cX1_pages 5 = .ok (.getfield 152, 3) := dk_180 0 152 (dk_at dksX1_pages_0 5 rfl rfl)
theorem dX1_pages_8 : decode cX1_pages 8 = .ok (.invokeinterface 61 1, 5) := by decide +kernel
theorem dX1_pages_13 : decode cX1_pages 13 = .ok (.ireturn, 1) := dk_172 (dk_at dksX1_pages_0 13 rfl rfl)
abbrev cX1_sheets : ByteArray := prog_1_method_18_code
def yX1_sheets : MethodName := ⟨RX1, "sheets", "(I)I"⟩
def dkwX1_sheets_0 : List UInt8 := [42, 27, 182, 0, 91, 182, 0, 94, 172]
abbrev dktX1_sheets_0 : List UInt8 := dkwX1_sheets_0 ++ []
theorem dksX1_sheets_0 : cX1_sheets.data.toList.drop 0 = dktX1_sheets_0 := by decide +kernel
theorem dX1_sheets_0 : decode cX1_sheets 0 = .ok (.aload_n 0, 1) := dk_42 (dk_at dksX1_sheets_0 0 rfl rfl)
theorem dX1_sheets_1 : decode cX1_sheets 1 = .ok (.iload_n 1, 1) := dk_27 (dk_at dksX1_sheets_0 1 rfl rfl)
theorem dX1_sheets_2 : decode cX1_sheets 2 = .ok (.invokevirtual 91, 3) := dk_182 0 91 (dk_at dksX1_sheets_0 2 rfl rfl)
theorem dX1_sheets_5 : decode cX1_sheets 5 = .ok (.invokevirtual 94, 3) := dk_182 0 94 (dk_at dksX1_sheets_0 5 rfl rfl)
theorem dX1_sheets_8 : decode cX1_sheets 8 = .ok (.ireturn, 1) := dk_172 (dk_at dksX1_sheets_0 8 rfl rfl)
abbrev cX1_completeJob : ByteArray := prog_1_method_9_code
def yX1_completeJob : MethodName := ⟨RX1, "completeJob", "(I)LBinderyDesk$Job;"⟩
def dkwX1_completeJob_0 : List UInt8 := [42, 27, 182, 0, 79, 77, 44, 182, 0, 83, 184, 0, 87, 44, 176]
abbrev dktX1_completeJob_0 : List UInt8 := dkwX1_completeJob_0 ++ []
theorem dksX1_completeJob_0 : cX1_completeJob.data.toList.drop 0 = dktX1_completeJob_0 := by decide +kernel
theorem dX1_completeJob_0 : decode cX1_completeJob 0 = .ok (.aload_n 0, 1) := dk_42 (dk_at dksX1_completeJob_0 0 rfl rfl)
theorem dX1_completeJob_1 : decode cX1_completeJob 1 = .ok (.iload_n 1, 1) := dk_27 (dk_at dksX1_completeJob_0 1 rfl rfl)
theorem dX1_completeJob_2 : decode cX1_completeJob 2 = .ok (.invokevirtual 79, 3) := dk_182 0 79 (dk_at dksX1_completeJob_0 2 rfl rfl)
theorem dX1_completeJob_5 : decode cX1_completeJob 5 = .ok (.astore_n 2, 1) := dk_77 (dk_at dksX1_completeJob_0 5 rfl rfl)
theorem dX1_completeJob_6 : decode cX1_completeJob 6 = .ok (.aload_n 2, 1) := dk_44 (dk_at dksX1_completeJob_0 6 rfl rfl)
theorem dX1_completeJob_7 : decode cX1_completeJob 7 = .ok (.invokevirtual 83, 3) := dk_182 0 83 (dk_at dksX1_completeJob_0 7 rfl rfl)
theorem dX1_completeJob_10 : decode cX1_completeJob 10 = .ok (.invokestatic 87, 3) := dk_184 0 87 (dk_at dksX1_completeJob_0 10 rfl rfl)
theorem dX1_completeJob_13 : decode cX1_completeJob 13 = .ok (.aload_n 2, 1) := dk_44 (dk_at dksX1_completeJob_0 13 rfl rfl)
theorem dX1_completeJob_14 : decode cX1_completeJob 14 = .ok (.areturn, 1) := dk_176 (dk_at dksX1_completeJob_0 14 rfl rfl)
abbrev cX1_pageAt : ByteArray := prog_1_method_19_code
def yX1_pageAt : MethodName := ⟨RX1, "pageAt", "(III)I"⟩
def dkwX1_pageAt_1 : List UInt8 := [4, 167, 0, 4, 3, 184, 0, 97, 25, 4, 28, 29, 182, 0, 166, 172]
abbrev dktX1_pageAt_1 : List UInt8 := dkwX1_pageAt_1 ++ []
def dkwX1_pageAt_0 : List UInt8 := [42, 27, 28, 182, 0, 155, 58, 4, 29, 155, 0, 19, 29, 25, 4, 180, 0, 159, 180, 0, 163, 162, 0, 7]
abbrev dktX1_pageAt_0 : List UInt8 := dkwX1_pageAt_0 ++ dktX1_pageAt_1
theorem dksX1_pageAt_0 : cX1_pageAt.data.toList.drop 0 = dktX1_pageAt_0 := by decide +kernel
theorem dksX1_pageAt_1 : cX1_pageAt.data.toList.drop 24 = dktX1_pageAt_1 := dk_seg dksX1_pageAt_0 24 rfl rfl
theorem dX1_pageAt_0 : decode cX1_pageAt 0 = .ok (.aload_n 0, 1) := dk_42 (dk_at dksX1_pageAt_0 0 rfl rfl)
theorem dX1_pageAt_1 : decode cX1_pageAt 1 = .ok (.iload_n 1, 1) := dk_27 (dk_at dksX1_pageAt_0 1 rfl rfl)
theorem dX1_pageAt_2 : decode cX1_pageAt 2 = .ok (.iload_n 2, 1) := dk_28 (dk_at dksX1_pageAt_0 2 rfl rfl)
theorem dX1_pageAt_3 : decode cX1_pageAt 3 = .ok (.invokevirtual 155, 3) := dk_182 0 155 (dk_at dksX1_pageAt_0 3 rfl rfl)
theorem dX1_pageAt_6 : decode cX1_pageAt 6 = .ok (.astore 4, 2) := dk_58 4 (dk_at dksX1_pageAt_0 6 rfl rfl)
theorem dX1_pageAt_8 : decode cX1_pageAt 8 = .ok (.iload_n 3, 1) := dk_29 (dk_at dksX1_pageAt_0 8 rfl rfl)
theorem dX1_pageAt_9 : decode cX1_pageAt 9 = .ok (.ifCond .lt 19, 3) := dk_155 0 19 (dk_at dksX1_pageAt_0 9 rfl rfl)
theorem dX1_pageAt_12 : decode cX1_pageAt 12 = .ok (.iload_n 3, 1) := dk_29 (dk_at dksX1_pageAt_0 12 rfl rfl)
theorem dX1_pageAt_13 : decode cX1_pageAt 13 = .ok (.aload 4, 2) := dk_25 4 (dk_at dksX1_pageAt_0 13 rfl rfl)
theorem dX1_pageAt_15 : decode cX1_pageAt 15 = .ok (.getfield 159, 3) := dk_180 0 159 (dk_at dksX1_pageAt_0 15 rfl rfl)
theorem dX1_pageAt_18 : decode cX1_pageAt 18 = .ok (.getfield 163, 3) := dk_180 0 163 (dk_at dksX1_pageAt_0 18 rfl rfl)
theorem dX1_pageAt_21 : decode cX1_pageAt 21 = .ok (.if_icmp .ge 7, 3) := dk_162 0 7 (dk_at dksX1_pageAt_0 21 rfl rfl)
theorem dX1_pageAt_24 : decode cX1_pageAt 24 = .ok (.iconst 1, 1) := dk_4 (dk_at dksX1_pageAt_1 0 rfl rfl)
theorem dX1_pageAt_25 : decode cX1_pageAt 25 = .ok (.goto 4, 3) := dk_167 0 4 (dk_at dksX1_pageAt_1 1 rfl rfl)
theorem dX1_pageAt_28 : decode cX1_pageAt 28 = .ok (.iconst 0, 1) := dk_3 (dk_at dksX1_pageAt_1 4 rfl rfl)
theorem dX1_pageAt_29 : decode cX1_pageAt 29 = .ok (.invokestatic 97, 3) := dk_184 0 97 (dk_at dksX1_pageAt_1 5 rfl rfl)
theorem dX1_pageAt_32 : decode cX1_pageAt 32 = .ok (.aload 4, 2) := dk_25 4 (dk_at dksX1_pageAt_1 8 rfl rfl)
theorem dX1_pageAt_34 : decode cX1_pageAt 34 = .ok (.iload_n 2, 1) := dk_28 (dk_at dksX1_pageAt_1 10 rfl rfl)
theorem dX1_pageAt_35 : decode cX1_pageAt 35 = .ok (.iload_n 3, 1) := dk_29 (dk_at dksX1_pageAt_1 11 rfl rfl)
theorem dX1_pageAt_36 : decode cX1_pageAt 36 = .ok (.invokevirtual 166, 3) := dk_182 0 166 (dk_at dksX1_pageAt_1 12 rfl rfl)
theorem dX1_pageAt_39 : decode cX1_pageAt 39 = .ok (.ireturn, 1) := dk_172 (dk_at dksX1_pageAt_1 15 rfl rfl)
abbrev cX1_jobWithSheet : ByteArray := prog_1_method_10_code
def yX1_jobWithSheet : MethodName := ⟨RX1, "jobWithSheet", "(II)LBinderyDesk$Job;"⟩
def dkwX1_jobWithSheet_1 : List UInt8 := [184, 0, 97, 45, 176]
abbrev dktX1_jobWithSheet_1 : List UInt8 := dkwX1_jobWithSheet_1 ++ []
def dkwX1_jobWithSheet_0 : List UInt8 := [42, 27, 182, 0, 91, 78, 28, 155, 0, 15, 28, 45, 182, 0, 94, 162, 0, 7, 4, 167, 0, 4, 3]
abbrev dktX1_jobWithSheet_0 : List UInt8 := dkwX1_jobWithSheet_0 ++ dktX1_jobWithSheet_1
theorem dksX1_jobWithSheet_0 : cX1_jobWithSheet.data.toList.drop 0 = dktX1_jobWithSheet_0 := by decide +kernel
theorem dksX1_jobWithSheet_1 : cX1_jobWithSheet.data.toList.drop 23 = dktX1_jobWithSheet_1 := dk_seg dksX1_jobWithSheet_0 23 rfl rfl
theorem dX1_jobWithSheet_0 : decode cX1_jobWithSheet 0 = .ok (.aload_n 0, 1) := dk_42 (dk_at dksX1_jobWithSheet_0 0 rfl rfl)
theorem dX1_jobWithSheet_1 : decode cX1_jobWithSheet 1 = .ok (.iload_n 1, 1) := dk_27 (dk_at dksX1_jobWithSheet_0 1 rfl rfl)
theorem dX1_jobWithSheet_2 : decode cX1_jobWithSheet 2 = .ok (.invokevirtual 91, 3) := dk_182 0 91 (dk_at dksX1_jobWithSheet_0 2 rfl rfl)
theorem dX1_jobWithSheet_5 : decode cX1_jobWithSheet 5 = .ok (.astore_n 3, 1) := dk_78 (dk_at dksX1_jobWithSheet_0 5 rfl rfl)
theorem dX1_jobWithSheet_6 : decode cX1_jobWithSheet 6 = .ok (.iload_n 2, 1) := dk_28 (dk_at dksX1_jobWithSheet_0 6 rfl rfl)
theorem dX1_jobWithSheet_7 : decode cX1_jobWithSheet 7 = .ok (.ifCond .lt 15, 3) := dk_155 0 15 (dk_at dksX1_jobWithSheet_0 7 rfl rfl)
theorem dX1_jobWithSheet_10 : decode cX1_jobWithSheet 10 = .ok (.iload_n 2, 1) := dk_28 (dk_at dksX1_jobWithSheet_0 10 rfl rfl)
theorem dX1_jobWithSheet_11 : decode cX1_jobWithSheet 11 = .ok (.aload_n 3, 1) := dk_45 (dk_at dksX1_jobWithSheet_0 11 rfl rfl)
theorem dX1_jobWithSheet_12 : decode cX1_jobWithSheet 12 = .ok (.invokevirtual 94, 3) := dk_182 0 94 (dk_at dksX1_jobWithSheet_0 12 rfl rfl)
theorem dX1_jobWithSheet_15 : decode cX1_jobWithSheet 15 = .ok (.if_icmp .ge 7, 3) := dk_162 0 7 (dk_at dksX1_jobWithSheet_0 15 rfl rfl)
theorem dX1_jobWithSheet_18 : decode cX1_jobWithSheet 18 = .ok (.iconst 1, 1) := dk_4 (dk_at dksX1_jobWithSheet_0 18 rfl rfl)
theorem dX1_jobWithSheet_19 : decode cX1_jobWithSheet 19 = .ok (.goto 4, 3) := dk_167 0 4 (dk_at dksX1_jobWithSheet_0 19 rfl rfl)
theorem dX1_jobWithSheet_22 : decode cX1_jobWithSheet 22 = .ok (.iconst 0, 1) := dk_3 (dk_at dksX1_jobWithSheet_0 22 rfl rfl)
theorem dX1_jobWithSheet_23 : decode cX1_jobWithSheet 23 = .ok (.invokestatic 97, 3) := dk_184 0 97 (dk_at dksX1_jobWithSheet_1 0 rfl rfl)
theorem dX1_jobWithSheet_26 : decode cX1_jobWithSheet 26 = .ok (.aload_n 3, 1) := dk_45 (dk_at dksX1_jobWithSheet_1 3 rfl rfl)
theorem dX1_jobWithSheet_27 : decode cX1_jobWithSheet 27 = .ok (.areturn, 1) := dk_176 (dk_at dksX1_jobWithSheet_1 4 rfl rfl)
abbrev cX1_requireElement : ByteArray := prog_1_method_2_code
def yX1_requireElement : MethodName := ⟨RX1, "requireElement", "(Z)V"⟩
def dkwX1_requireElement_0 : List UInt8 := [26, 154, 0, 11, 187, 0, 9, 89, 183, 0, 11, 191, 177]
abbrev dktX1_requireElement_0 : List UInt8 := dkwX1_requireElement_0 ++ []
theorem dksX1_requireElement_0 : cX1_requireElement.data.toList.drop 0 = dktX1_requireElement_0 := by decide +kernel
theorem dX1_requireElement_0 : decode cX1_requireElement 0 = .ok (.iload_n 0, 1) := dk_26 (dk_at dksX1_requireElement_0 0 rfl rfl)
theorem dX1_requireElement_1 : decode cX1_requireElement 1 = .ok (.ifCond .ne 11, 3) := dk_154 0 11 (dk_at dksX1_requireElement_0 1 rfl rfl)
theorem dX1_requireElement_4 : decode cX1_requireElement 4 = .ok (.new 9, 3) := dk_187 0 9 (dk_at dksX1_requireElement_0 4 rfl rfl)
theorem dX1_requireElement_7 : decode cX1_requireElement 7 = .ok (.dup, 1) := dk_89 (dk_at dksX1_requireElement_0 7 rfl rfl)
theorem dX1_requireElement_8 : decode cX1_requireElement 8 = .ok (.invokespecial 11, 3) := dk_183 0 11 (dk_at dksX1_requireElement_0 8 rfl rfl)
theorem dX1_requireElement_11 : decode cX1_requireElement 11 = .ok (.athrow, 1) := dk_191 (dk_at dksX1_requireElement_0 11 rfl rfl)
theorem dX1_requireElement_12 : decode cX1_requireElement 12 = .ok (.return_, 1) := dk_177 (dk_at dksX1_requireElement_0 12 rfl rfl)
abbrev cX1_sheetOf : ByteArray := prog_1_method_20_code
def yX1_sheetOf : MethodName := ⟨RX1, "sheetOf", "(II)I"⟩
def dkwX1_sheetOf_2 : List UInt8 := [132, 5, 1, 167, 255, 226, 132, 4, 1, 167, 255, 208, 187, 0, 9, 89, 183, 0, 11, 191]
abbrev dktX1_sheetOf_2 : List UInt8 := dkwX1_sheetOf_2 ++ []
def dkwX1_sheetOf_1 : List UInt8 := [180, 0, 159, 180, 0, 163, 162, 0, 24, 45, 21, 4, 21, 5, 182, 0, 166, 28, 160, 0, 6, 21, 4, 172]
abbrev dktX1_sheetOf_1 : List UInt8 := dkwX1_sheetOf_1 ++ dktX1_sheetOf_2
def dkwX1_sheetOf_0 : List UInt8 := [42, 27, 182, 0, 91, 78, 3, 54, 4, 21, 4, 45, 182, 0, 94, 162, 0, 45, 3, 54, 5, 21, 5, 45]
abbrev dktX1_sheetOf_0 : List UInt8 := dkwX1_sheetOf_0 ++ dktX1_sheetOf_1
theorem dksX1_sheetOf_0 : cX1_sheetOf.data.toList.drop 0 = dktX1_sheetOf_0 := by decide +kernel
theorem dksX1_sheetOf_1 : cX1_sheetOf.data.toList.drop 24 = dktX1_sheetOf_1 := dk_seg dksX1_sheetOf_0 24 rfl rfl
theorem dksX1_sheetOf_2 : cX1_sheetOf.data.toList.drop 48 = dktX1_sheetOf_2 := dk_seg dksX1_sheetOf_1 24 rfl rfl
theorem dX1_sheetOf_0 : decode cX1_sheetOf 0 = .ok (.aload_n 0, 1) := dk_42 (dk_at dksX1_sheetOf_0 0 rfl rfl)
theorem dX1_sheetOf_1 : decode cX1_sheetOf 1 = .ok (.iload_n 1, 1) := dk_27 (dk_at dksX1_sheetOf_0 1 rfl rfl)
theorem dX1_sheetOf_2 : decode cX1_sheetOf 2 = .ok (.invokevirtual 91, 3) := dk_182 0 91 (dk_at dksX1_sheetOf_0 2 rfl rfl)
theorem dX1_sheetOf_5 : decode cX1_sheetOf 5 = .ok (.astore_n 3, 1) := dk_78 (dk_at dksX1_sheetOf_0 5 rfl rfl)
theorem dX1_sheetOf_6 : decode cX1_sheetOf 6 = .ok (.iconst 0, 1) := dk_3 (dk_at dksX1_sheetOf_0 6 rfl rfl)
theorem dX1_sheetOf_7 : decode cX1_sheetOf 7 = .ok (.istore 4, 2) := dk_54 4 (dk_at dksX1_sheetOf_0 7 rfl rfl)
theorem dX1_sheetOf_9 : decode cX1_sheetOf 9 = .ok (.iload 4, 2) := dk_21 4 (dk_at dksX1_sheetOf_0 9 rfl rfl)
theorem dX1_sheetOf_11 : decode cX1_sheetOf 11 = .ok (.aload_n 3, 1) := dk_45 (dk_at dksX1_sheetOf_0 11 rfl rfl)
theorem dX1_sheetOf_12 : decode cX1_sheetOf 12 = .ok (.invokevirtual 94, 3) := dk_182 0 94 (dk_at dksX1_sheetOf_0 12 rfl rfl)
theorem dX1_sheetOf_15 : decode cX1_sheetOf 15 = .ok (.if_icmp .ge 45, 3) := dk_162 0 45 (dk_at dksX1_sheetOf_0 15 rfl rfl)
theorem dX1_sheetOf_18 : decode cX1_sheetOf 18 = .ok (.iconst 0, 1) := dk_3 (dk_at dksX1_sheetOf_0 18 rfl rfl)
theorem dX1_sheetOf_19 : decode cX1_sheetOf 19 = .ok (.istore 5, 2) := dk_54 5 (dk_at dksX1_sheetOf_0 19 rfl rfl)
theorem dX1_sheetOf_21 : decode cX1_sheetOf 21 = .ok (.iload 5, 2) := dk_21 5 (dk_at dksX1_sheetOf_0 21 rfl rfl)
theorem dX1_sheetOf_23 : decode cX1_sheetOf 23 = .ok (.aload_n 3, 1) := dk_45 (dk_at dksX1_sheetOf_0 23 rfl rfl)
theorem dX1_sheetOf_24 : decode cX1_sheetOf 24 = .ok (.getfield 159, 3) := dk_180 0 159 (dk_at dksX1_sheetOf_1 0 rfl rfl)
theorem dX1_sheetOf_27 : decode cX1_sheetOf 27 = .ok (.getfield 163, 3) := dk_180 0 163 (dk_at dksX1_sheetOf_1 3 rfl rfl)
theorem dX1_sheetOf_30 : decode cX1_sheetOf 30 = .ok (.if_icmp .ge 24, 3) := dk_162 0 24 (dk_at dksX1_sheetOf_1 6 rfl rfl)
theorem dX1_sheetOf_33 : decode cX1_sheetOf 33 = .ok (.aload_n 3, 1) := dk_45 (dk_at dksX1_sheetOf_1 9 rfl rfl)
theorem dX1_sheetOf_34 : decode cX1_sheetOf 34 = .ok (.iload 4, 2) := dk_21 4 (dk_at dksX1_sheetOf_1 10 rfl rfl)
theorem dX1_sheetOf_36 : decode cX1_sheetOf 36 = .ok (.iload 5, 2) := dk_21 5 (dk_at dksX1_sheetOf_1 12 rfl rfl)
theorem dX1_sheetOf_38 : decode cX1_sheetOf 38 = .ok (.invokevirtual 166, 3) := dk_182 0 166 (dk_at dksX1_sheetOf_1 14 rfl rfl)
theorem dX1_sheetOf_41 : decode cX1_sheetOf 41 = .ok (.iload_n 2, 1) := dk_28 (dk_at dksX1_sheetOf_1 17 rfl rfl)
theorem dX1_sheetOf_42 : decode cX1_sheetOf 42 = .ok (.if_icmp .ne 6, 3) := dk_160 0 6 (dk_at dksX1_sheetOf_1 18 rfl rfl)
theorem dX1_sheetOf_45 : decode cX1_sheetOf 45 = .ok (.iload 4, 2) := dk_21 4 (dk_at dksX1_sheetOf_1 21 rfl rfl)
theorem dX1_sheetOf_47 : decode cX1_sheetOf 47 = .ok (.ireturn, 1) := dk_172 (dk_at dksX1_sheetOf_1 23 rfl rfl)
theorem dX1_sheetOf_48 : decode cX1_sheetOf 48 = .ok (.iinc 5 1, 3) := dk_132 5 1 (dk_at dksX1_sheetOf_2 0 rfl rfl)
theorem dX1_sheetOf_51 : decode cX1_sheetOf 51 = .ok (.goto (-30), 3) := dk_167 255 226 (dk_at dksX1_sheetOf_2 3 rfl rfl)
theorem dX1_sheetOf_54 : decode cX1_sheetOf 54 = .ok (.iinc 4 1, 3) := dk_132 4 1 (dk_at dksX1_sheetOf_2 6 rfl rfl)
theorem dX1_sheetOf_57 : decode cX1_sheetOf 57 = .ok (.goto (-48), 3) := dk_167 255 208 (dk_at dksX1_sheetOf_2 9 rfl rfl)
theorem dX1_sheetOf_60 : decode cX1_sheetOf 60 = .ok (.new 9, 3) := dk_187 0 9 (dk_at dksX1_sheetOf_2 12 rfl rfl)
theorem dX1_sheetOf_63 : decode cX1_sheetOf 63 = .ok (.dup, 1) := dk_89 (dk_at dksX1_sheetOf_2 15 rfl rfl)
theorem dX1_sheetOf_64 : decode cX1_sheetOf 64 = .ok (.invokespecial 11, 3) := dk_183 0 11 (dk_at dksX1_sheetOf_2 16 rfl rfl)
theorem dX1_sheetOf_67 : decode cX1_sheetOf 67 = .ok (.athrow, 1) := dk_191 (dk_at dksX1_sheetOf_2 19 rfl rfl)
abbrev cX1_print : ByteArray := prog_1_method_22_code
def yX1_print : MethodName := ⟨RX1, "print", "(III)I"⟩
def dkwX1_print_6 : List UInt8 := [96, 181, 0, 205, 42, 89, 180, 0, 208, 21, 6, 133, 97, 181, 0, 208, 21, 6, 172]
abbrev dktX1_print_6 : List UInt8 := dkwX1_print_6 ++ []
def dkwX1_print_5 : List UInt8 := [167, 255, 210, 42, 25, 4, 180, 0, 159, 181, 0, 170, 25, 5, 29, 182, 0, 204, 42, 89, 180, 0, 205, 4]
abbrev dktX1_print_5 : List UInt8 := dkwX1_print_5 ++ dktX1_print_6
def dkwX1_print_4 : List UInt8 := [79, 42, 180, 0, 43, 42, 180, 0, 57, 21, 7, 46, 184, 0, 197, 182, 0, 203, 87, 132, 7, 1]
abbrev dktX1_print_4 : List UInt8 := dkwX1_print_4 ++ dktX1_print_5
def dkwX1_print_3 : List UInt8 := [21, 7, 42, 180, 0, 57, 190, 162, 0, 42, 42, 180, 0, 57, 21, 7, 25, 4, 28, 21, 7, 182, 0, 173]
abbrev dktX1_print_3 : List UInt8 := dkwX1_print_3 ++ dktX1_print_4
def dkwX1_print_2 : List UInt8 := [163, 0, 7, 4, 167, 0, 4, 3, 184, 0, 190, 42, 25, 4, 28, 182, 0, 193, 54, 6, 3, 54, 7]
abbrev dktX1_print_2 : List UInt8 := dkwX1_print_2 ++ dktX1_print_3
def dkwX1_print_1 : List UInt8 := [192, 0, 182, 58, 5, 25, 4, 28, 182, 0, 184, 153, 0, 20, 25, 5, 182, 0, 187, 29, 96, 17, 39, 15]
abbrev dktX1_print_1 : List UInt8 := dkwX1_print_1 ++ dktX1_print_2
def dkwX1_print_0 : List UInt8 := [42, 27, 28, 182, 0, 155, 58, 4, 29, 184, 0, 176, 25, 4, 180, 0, 179, 28, 185, 0, 71, 2, 0]
abbrev dktX1_print_0 : List UInt8 := dkwX1_print_0 ++ dktX1_print_1
theorem dksX1_print_0 : cX1_print.data.toList.drop 0 = dktX1_print_0 := by decide +kernel
theorem dksX1_print_1 : cX1_print.data.toList.drop 23 = dktX1_print_1 := dk_seg dksX1_print_0 23 rfl rfl
theorem dksX1_print_2 : cX1_print.data.toList.drop 47 = dktX1_print_2 := dk_seg dksX1_print_1 24 rfl rfl
theorem dksX1_print_3 : cX1_print.data.toList.drop 70 = dktX1_print_3 := dk_seg dksX1_print_2 23 rfl rfl
theorem dksX1_print_4 : cX1_print.data.toList.drop 94 = dktX1_print_4 := dk_seg dksX1_print_3 24 rfl rfl
theorem dksX1_print_5 : cX1_print.data.toList.drop 116 = dktX1_print_5 := dk_seg dksX1_print_4 22 rfl rfl
theorem dksX1_print_6 : cX1_print.data.toList.drop 140 = dktX1_print_6 := dk_seg dksX1_print_5 24 rfl rfl
theorem dX1_print_0 : decode cX1_print 0 = .ok (.aload_n 0, 1) := dk_42 (dk_at dksX1_print_0 0 rfl rfl)
theorem dX1_print_1 : decode cX1_print 1 = .ok (.iload_n 1, 1) := dk_27 (dk_at dksX1_print_0 1 rfl rfl)
theorem dX1_print_2 : decode cX1_print 2 = .ok (.iload_n 2, 1) := dk_28 (dk_at dksX1_print_0 2 rfl rfl)
theorem dX1_print_3 : decode cX1_print 3 = .ok (.invokevirtual 155, 3) := dk_182 0 155 (dk_at dksX1_print_0 3 rfl rfl)
theorem dX1_print_6 : decode cX1_print 6 = .ok (.astore 4, 2) := dk_58 4 (dk_at dksX1_print_0 6 rfl rfl)
theorem dX1_print_8 : decode cX1_print 8 = .ok (.iload_n 3, 1) := dk_29 (dk_at dksX1_print_0 8 rfl rfl)
theorem dX1_print_9 : decode cX1_print 9 = .ok (.invokestatic 176, 3) := dk_184 0 176 (dk_at dksX1_print_0 9 rfl rfl)
theorem dX1_print_12 : decode cX1_print 12 = .ok (.aload 4, 2) := dk_25 4 (dk_at dksX1_print_0 12 rfl rfl)
theorem dX1_print_14 : decode cX1_print 14 = .ok (.getfield 179, 3) := dk_180 0 179 (dk_at dksX1_print_0 14 rfl rfl)
theorem dX1_print_17 : decode cX1_print 17 = .ok (.iload_n 2, 1) := dk_28 (dk_at dksX1_print_0 17 rfl rfl)
theorem dX1_print_18 : decode cX1_print 18 = .ok (.invokeinterface 71 2, 5) := by decide +kernel
theorem dX1_print_23 : decode cX1_print 23 = .ok (.checkcast 182, 3) := dk_192 0 182 (dk_at dksX1_print_1 0 rfl rfl)
theorem dX1_print_26 : decode cX1_print 26 = .ok (.astore 5, 2) := dk_58 5 (dk_at dksX1_print_1 3 rfl rfl)
theorem dX1_print_28 : decode cX1_print 28 = .ok (.aload 4, 2) := dk_25 4 (dk_at dksX1_print_1 5 rfl rfl)
theorem dX1_print_30 : decode cX1_print 30 = .ok (.iload_n 2, 1) := dk_28 (dk_at dksX1_print_1 7 rfl rfl)
theorem dX1_print_31 : decode cX1_print 31 = .ok (.invokevirtual 184, 3) := dk_182 0 184 (dk_at dksX1_print_1 8 rfl rfl)
theorem dX1_print_34 : decode cX1_print 34 = .ok (.ifCond .eq 20, 3) := dk_153 0 20 (dk_at dksX1_print_1 11 rfl rfl)
theorem dX1_print_37 : decode cX1_print 37 = .ok (.aload 5, 2) := dk_25 5 (dk_at dksX1_print_1 14 rfl rfl)
theorem dX1_print_39 : decode cX1_print 39 = .ok (.invokevirtual 187, 3) := dk_182 0 187 (dk_at dksX1_print_1 16 rfl rfl)
theorem dX1_print_42 : decode cX1_print 42 = .ok (.iload_n 3, 1) := dk_29 (dk_at dksX1_print_1 19 rfl rfl)
theorem dX1_print_43 : decode cX1_print 43 = .ok (.iadd, 1) := dk_96 (dk_at dksX1_print_1 20 rfl rfl)
theorem dX1_print_44 : decode cX1_print 44 = .ok (.sipush 9999, 3) := dk_17 39 15 (dk_at dksX1_print_1 21 rfl rfl)
theorem dX1_print_47 : decode cX1_print 47 = .ok (.if_icmp .gt 7, 3) := dk_163 0 7 (dk_at dksX1_print_2 0 rfl rfl)
theorem dX1_print_50 : decode cX1_print 50 = .ok (.iconst 1, 1) := dk_4 (dk_at dksX1_print_2 3 rfl rfl)
theorem dX1_print_51 : decode cX1_print 51 = .ok (.goto 4, 3) := dk_167 0 4 (dk_at dksX1_print_2 4 rfl rfl)
theorem dX1_print_54 : decode cX1_print 54 = .ok (.iconst 0, 1) := dk_3 (dk_at dksX1_print_2 7 rfl rfl)
theorem dX1_print_55 : decode cX1_print 55 = .ok (.invokestatic 190, 3) := dk_184 0 190 (dk_at dksX1_print_2 8 rfl rfl)
theorem dX1_print_58 : decode cX1_print 58 = .ok (.aload_n 0, 1) := dk_42 (dk_at dksX1_print_2 11 rfl rfl)
theorem dX1_print_59 : decode cX1_print 59 = .ok (.aload 4, 2) := dk_25 4 (dk_at dksX1_print_2 12 rfl rfl)
theorem dX1_print_61 : decode cX1_print 61 = .ok (.iload_n 2, 1) := dk_28 (dk_at dksX1_print_2 14 rfl rfl)
theorem dX1_print_62 : decode cX1_print 62 = .ok (.invokevirtual 193, 3) := dk_182 0 193 (dk_at dksX1_print_2 15 rfl rfl)
theorem dX1_print_65 : decode cX1_print 65 = .ok (.istore 6, 2) := dk_54 6 (dk_at dksX1_print_2 18 rfl rfl)
theorem dX1_print_67 : decode cX1_print 67 = .ok (.iconst 0, 1) := dk_3 (dk_at dksX1_print_2 20 rfl rfl)
theorem dX1_print_68 : decode cX1_print 68 = .ok (.istore 7, 2) := dk_54 7 (dk_at dksX1_print_2 21 rfl rfl)
theorem dX1_print_70 : decode cX1_print 70 = .ok (.iload 7, 2) := dk_21 7 (dk_at dksX1_print_3 0 rfl rfl)
theorem dX1_print_72 : decode cX1_print 72 = .ok (.aload_n 0, 1) := dk_42 (dk_at dksX1_print_3 2 rfl rfl)
theorem dX1_print_73 : decode cX1_print 73 = .ok (.getfield 57, 3) := dk_180 0 57 (dk_at dksX1_print_3 3 rfl rfl)
theorem dX1_print_76 : decode cX1_print 76 = .ok (.arraylength, 1) := dk_190 (dk_at dksX1_print_3 6 rfl rfl)
theorem dX1_print_77 : decode cX1_print 77 = .ok (.if_icmp .ge 42, 3) := dk_162 0 42 (dk_at dksX1_print_3 7 rfl rfl)
theorem dX1_print_80 : decode cX1_print 80 = .ok (.aload_n 0, 1) := dk_42 (dk_at dksX1_print_3 10 rfl rfl)
theorem dX1_print_81 : decode cX1_print 81 = .ok (.getfield 57, 3) := dk_180 0 57 (dk_at dksX1_print_3 11 rfl rfl)
theorem dX1_print_84 : decode cX1_print 84 = .ok (.iload 7, 2) := dk_21 7 (dk_at dksX1_print_3 14 rfl rfl)
theorem dX1_print_86 : decode cX1_print 86 = .ok (.aload 4, 2) := dk_25 4 (dk_at dksX1_print_3 16 rfl rfl)
theorem dX1_print_88 : decode cX1_print 88 = .ok (.iload_n 2, 1) := dk_28 (dk_at dksX1_print_3 18 rfl rfl)
theorem dX1_print_89 : decode cX1_print 89 = .ok (.iload 7, 2) := dk_21 7 (dk_at dksX1_print_3 19 rfl rfl)
theorem dX1_print_91 : decode cX1_print 91 = .ok (.invokevirtual 173, 3) := dk_182 0 173 (dk_at dksX1_print_3 21 rfl rfl)
theorem dX1_print_94 : decode cX1_print 94 = .ok (.iastore, 1) := dk_79 (dk_at dksX1_print_4 0 rfl rfl)
theorem dX1_print_95 : decode cX1_print 95 = .ok (.aload_n 0, 1) := dk_42 (dk_at dksX1_print_4 1 rfl rfl)
theorem dX1_print_96 : decode cX1_print 96 = .ok (.getfield 43, 3) := dk_180 0 43 (dk_at dksX1_print_4 2 rfl rfl)
theorem dX1_print_99 : decode cX1_print 99 = .ok (.aload_n 0, 1) := dk_42 (dk_at dksX1_print_4 5 rfl rfl)
theorem dX1_print_100 : decode cX1_print 100 = .ok (.getfield 57, 3) := dk_180 0 57 (dk_at dksX1_print_4 6 rfl rfl)
theorem dX1_print_103 : decode cX1_print 103 = .ok (.iload 7, 2) := dk_21 7 (dk_at dksX1_print_4 9 rfl rfl)
theorem dX1_print_105 : decode cX1_print 105 = .ok (.iaload, 1) := dk_46 (dk_at dksX1_print_4 11 rfl rfl)
theorem dX1_print_106 : decode cX1_print 106 = .ok (.invokestatic 197, 3) := dk_184 0 197 (dk_at dksX1_print_4 12 rfl rfl)
theorem dX1_print_109 : decode cX1_print 109 = .ok (.invokevirtual 203, 3) := dk_182 0 203 (dk_at dksX1_print_4 15 rfl rfl)
theorem dX1_print_112 : decode cX1_print 112 = .ok (.pop, 1) := dk_87 (dk_at dksX1_print_4 18 rfl rfl)
theorem dX1_print_113 : decode cX1_print 113 = .ok (.iinc 7 1, 3) := dk_132 7 1 (dk_at dksX1_print_4 19 rfl rfl)
theorem dX1_print_116 : decode cX1_print 116 = .ok (.goto (-46), 3) := dk_167 255 210 (dk_at dksX1_print_5 0 rfl rfl)
theorem dX1_print_119 : decode cX1_print 119 = .ok (.aload_n 0, 1) := dk_42 (dk_at dksX1_print_5 3 rfl rfl)
theorem dX1_print_120 : decode cX1_print 120 = .ok (.aload 4, 2) := dk_25 4 (dk_at dksX1_print_5 4 rfl rfl)
theorem dX1_print_122 : decode cX1_print 122 = .ok (.getfield 159, 3) := dk_180 0 159 (dk_at dksX1_print_5 6 rfl rfl)
theorem dX1_print_125 : decode cX1_print 125 = .ok (.putfield 170, 3) := dk_181 0 170 (dk_at dksX1_print_5 9 rfl rfl)
theorem dX1_print_128 : decode cX1_print 128 = .ok (.aload 5, 2) := dk_25 5 (dk_at dksX1_print_5 12 rfl rfl)
theorem dX1_print_130 : decode cX1_print 130 = .ok (.iload_n 3, 1) := dk_29 (dk_at dksX1_print_5 14 rfl rfl)
theorem dX1_print_131 : decode cX1_print 131 = .ok (.invokevirtual 204, 3) := dk_182 0 204 (dk_at dksX1_print_5 15 rfl rfl)
theorem dX1_print_134 : decode cX1_print 134 = .ok (.aload_n 0, 1) := dk_42 (dk_at dksX1_print_5 18 rfl rfl)
theorem dX1_print_135 : decode cX1_print 135 = .ok (.dup, 1) := dk_89 (dk_at dksX1_print_5 19 rfl rfl)
theorem dX1_print_136 : decode cX1_print 136 = .ok (.getfield 205, 3) := dk_180 0 205 (dk_at dksX1_print_5 20 rfl rfl)
theorem dX1_print_139 : decode cX1_print 139 = .ok (.iconst 1, 1) := dk_4 (dk_at dksX1_print_5 23 rfl rfl)
theorem dX1_print_140 : decode cX1_print 140 = .ok (.iadd, 1) := dk_96 (dk_at dksX1_print_6 0 rfl rfl)
theorem dX1_print_141 : decode cX1_print 141 = .ok (.putfield 205, 3) := dk_181 0 205 (dk_at dksX1_print_6 1 rfl rfl)
theorem dX1_print_144 : decode cX1_print 144 = .ok (.aload_n 0, 1) := dk_42 (dk_at dksX1_print_6 4 rfl rfl)
theorem dX1_print_145 : decode cX1_print 145 = .ok (.dup, 1) := dk_89 (dk_at dksX1_print_6 5 rfl rfl)
theorem dX1_print_146 : decode cX1_print 146 = .ok (.getfield 208, 3) := dk_180 0 208 (dk_at dksX1_print_6 6 rfl rfl)
theorem dX1_print_149 : decode cX1_print 149 = .ok (.iload 6, 2) := dk_21 6 (dk_at dksX1_print_6 9 rfl rfl)
theorem dX1_print_151 : decode cX1_print 151 = .ok (.i2l, 1) := dk_133 (dk_at dksX1_print_6 11 rfl rfl)
theorem dX1_print_152 : decode cX1_print 152 = .ok (.ladd, 1) := dk_97 (dk_at dksX1_print_6 12 rfl rfl)
theorem dX1_print_153 : decode cX1_print 153 = .ok (.putfield 208, 3) := dk_181 0 208 (dk_at dksX1_print_6 13 rfl rfl)
theorem dX1_print_156 : decode cX1_print 156 = .ok (.iload 6, 2) := dk_21 6 (dk_at dksX1_print_6 16 rfl rfl)
theorem dX1_print_158 : decode cX1_print 158 = .ok (.ireturn, 1) := dk_172 (dk_at dksX1_print_6 18 rfl rfl)
abbrev cX1_requireCount : ByteArray := prog_1_method_5_code
def yX1_requireCount : MethodName := ⟨RX1, "requireCount", "(I)V"⟩
def dkwX1_requireCount_0 : List UInt8 := [26, 4, 161, 0, 10, 26, 17, 1, 244, 164, 0, 11, 187, 0, 18, 89, 183, 0, 20, 191, 177]
abbrev dktX1_requireCount_0 : List UInt8 := dkwX1_requireCount_0 ++ []
theorem dksX1_requireCount_0 : cX1_requireCount.data.toList.drop 0 = dktX1_requireCount_0 := by decide +kernel
theorem dX1_requireCount_0 : decode cX1_requireCount 0 = .ok (.iload_n 0, 1) := dk_26 (dk_at dksX1_requireCount_0 0 rfl rfl)
theorem dX1_requireCount_1 : decode cX1_requireCount 1 = .ok (.iconst 1, 1) := dk_4 (dk_at dksX1_requireCount_0 1 rfl rfl)
theorem dX1_requireCount_2 : decode cX1_requireCount 2 = .ok (.if_icmp .lt 10, 3) := dk_161 0 10 (dk_at dksX1_requireCount_0 2 rfl rfl)
theorem dX1_requireCount_5 : decode cX1_requireCount 5 = .ok (.iload_n 0, 1) := dk_26 (dk_at dksX1_requireCount_0 5 rfl rfl)
theorem dX1_requireCount_6 : decode cX1_requireCount 6 = .ok (.sipush 500, 3) := dk_17 1 244 (dk_at dksX1_requireCount_0 6 rfl rfl)
theorem dX1_requireCount_9 : decode cX1_requireCount 9 = .ok (.if_icmp .le 11, 3) := dk_164 0 11 (dk_at dksX1_requireCount_0 9 rfl rfl)
theorem dX1_requireCount_12 : decode cX1_requireCount 12 = .ok (.new 18, 3) := dk_187 0 18 (dk_at dksX1_requireCount_0 12 rfl rfl)
theorem dX1_requireCount_15 : decode cX1_requireCount 15 = .ok (.dup, 1) := dk_89 (dk_at dksX1_requireCount_0 15 rfl rfl)
theorem dX1_requireCount_16 : decode cX1_requireCount 16 = .ok (.invokespecial 20, 3) := dk_183 0 20 (dk_at dksX1_requireCount_0 16 rfl rfl)
theorem dX1_requireCount_19 : decode cX1_requireCount 19 = .ok (.athrow, 1) := dk_191 (dk_at dksX1_requireCount_0 19 rfl rfl)
theorem dX1_requireCount_20 : decode cX1_requireCount 20 = .ok (.return_, 1) := dk_177 (dk_at dksX1_requireCount_0 20 rfl rfl)
abbrev cX1_requirePossible : ByteArray := prog_1_method_4_code
def yX1_requirePossible : MethodName := ⟨RX1, "requirePossible", "(Z)V"⟩
def dkwX1_requirePossible_0 : List UInt8 := [26, 154, 0, 11, 187, 0, 15, 89, 183, 0, 17, 191, 177]
abbrev dktX1_requirePossible_0 : List UInt8 := dkwX1_requirePossible_0 ++ []
theorem dksX1_requirePossible_0 : cX1_requirePossible.data.toList.drop 0 = dktX1_requirePossible_0 := by decide +kernel
theorem dX1_requirePossible_0 : decode cX1_requirePossible 0 = .ok (.iload_n 0, 1) := dk_26 (dk_at dksX1_requirePossible_0 0 rfl rfl)
theorem dX1_requirePossible_1 : decode cX1_requirePossible 1 = .ok (.ifCond .ne 11, 3) := dk_154 0 11 (dk_at dksX1_requirePossible_0 1 rfl rfl)
theorem dX1_requirePossible_4 : decode cX1_requirePossible 4 = .ok (.new 15, 3) := dk_187 0 15 (dk_at dksX1_requirePossible_0 4 rfl rfl)
theorem dX1_requirePossible_7 : decode cX1_requirePossible 7 = .ok (.dup, 1) := dk_89 (dk_at dksX1_requirePossible_0 7 rfl rfl)
theorem dX1_requirePossible_8 : decode cX1_requirePossible 8 = .ok (.invokespecial 17, 3) := dk_183 0 17 (dk_at dksX1_requirePossible_0 8 rfl rfl)
theorem dX1_requirePossible_11 : decode cX1_requirePossible 11 = .ok (.athrow, 1) := dk_191 (dk_at dksX1_requirePossible_0 11 rfl rfl)
theorem dX1_requirePossible_12 : decode cX1_requirePossible 12 = .ok (.return_, 1) := dk_177 (dk_at dksX1_requirePossible_0 12 rfl rfl)
abbrev cX1_makeready : ByteArray := prog_1_method_21_code
def yX1_makeready : MethodName := ⟨RX1, "makeready", "(LBinderyDesk$Job;I)I"⟩
def dkwX1_makeready_2 : List UInt8 := [160, 0, 7, 3, 167, 0, 5, 16, 20, 96, 62, 132, 4, 1, 167, 255, 217, 29, 172]
abbrev dktX1_makeready_2 : List UInt8 := dkwX1_makeready_2 ++ []
def dkwX1_makeready_1 : List UInt8 := [180, 0, 57, 190, 162, 0, 35, 29, 42, 180, 0, 57, 21, 4, 46, 43, 28, 21, 4, 182, 0, 173]
abbrev dktX1_makeready_1 : List UInt8 := dkwX1_makeready_1 ++ dktX1_makeready_2
def dkwX1_makeready_0 : List UInt8 := [42, 180, 0, 170, 43, 180, 0, 159, 166, 0, 7, 3, 167, 0, 5, 16, 15, 62, 3, 54, 4, 21, 4, 42]
abbrev dktX1_makeready_0 : List UInt8 := dkwX1_makeready_0 ++ dktX1_makeready_1
theorem dksX1_makeready_0 : cX1_makeready.data.toList.drop 0 = dktX1_makeready_0 := by decide +kernel
theorem dksX1_makeready_1 : cX1_makeready.data.toList.drop 24 = dktX1_makeready_1 := dk_seg dksX1_makeready_0 24 rfl rfl
theorem dksX1_makeready_2 : cX1_makeready.data.toList.drop 46 = dktX1_makeready_2 := dk_seg dksX1_makeready_1 22 rfl rfl
theorem dX1_makeready_0 : decode cX1_makeready 0 = .ok (.aload_n 0, 1) := dk_42 (dk_at dksX1_makeready_0 0 rfl rfl)
theorem dX1_makeready_1 : decode cX1_makeready 1 = .ok (.getfield 170, 3) := dk_180 0 170 (dk_at dksX1_makeready_0 1 rfl rfl)
theorem dX1_makeready_4 : decode cX1_makeready 4 = .ok (.aload_n 1, 1) := dk_43 (dk_at dksX1_makeready_0 4 rfl rfl)
theorem dX1_makeready_5 : decode cX1_makeready 5 = .ok (.getfield 159, 3) := dk_180 0 159 (dk_at dksX1_makeready_0 5 rfl rfl)
theorem dX1_makeready_8 : decode cX1_makeready 8 = .ok (.if_acmp .ne 7, 3) := dk_166 0 7 (dk_at dksX1_makeready_0 8 rfl rfl)
theorem dX1_makeready_11 : decode cX1_makeready 11 = .ok (.iconst 0, 1) := dk_3 (dk_at dksX1_makeready_0 11 rfl rfl)
theorem dX1_makeready_12 : decode cX1_makeready 12 = .ok (.goto 5, 3) := dk_167 0 5 (dk_at dksX1_makeready_0 12 rfl rfl)
theorem dX1_makeready_15 : decode cX1_makeready 15 = .ok (.bipush 15, 2) := dk_16 15 (dk_at dksX1_makeready_0 15 rfl rfl)
theorem dX1_makeready_17 : decode cX1_makeready 17 = .ok (.istore_n 3, 1) := dk_62 (dk_at dksX1_makeready_0 17 rfl rfl)
theorem dX1_makeready_18 : decode cX1_makeready 18 = .ok (.iconst 0, 1) := dk_3 (dk_at dksX1_makeready_0 18 rfl rfl)
theorem dX1_makeready_19 : decode cX1_makeready 19 = .ok (.istore 4, 2) := dk_54 4 (dk_at dksX1_makeready_0 19 rfl rfl)
theorem dX1_makeready_21 : decode cX1_makeready 21 = .ok (.iload 4, 2) := dk_21 4 (dk_at dksX1_makeready_0 21 rfl rfl)
theorem dX1_makeready_23 : decode cX1_makeready 23 = .ok (.aload_n 0, 1) := dk_42 (dk_at dksX1_makeready_0 23 rfl rfl)
theorem dX1_makeready_24 : decode cX1_makeready 24 = .ok (.getfield 57, 3) := dk_180 0 57 (dk_at dksX1_makeready_1 0 rfl rfl)
theorem dX1_makeready_27 : decode cX1_makeready 27 = .ok (.arraylength, 1) := dk_190 (dk_at dksX1_makeready_1 3 rfl rfl)
theorem dX1_makeready_28 : decode cX1_makeready 28 = .ok (.if_icmp .ge 35, 3) := dk_162 0 35 (dk_at dksX1_makeready_1 4 rfl rfl)
theorem dX1_makeready_31 : decode cX1_makeready 31 = .ok (.iload_n 3, 1) := dk_29 (dk_at dksX1_makeready_1 7 rfl rfl)
theorem dX1_makeready_32 : decode cX1_makeready 32 = .ok (.aload_n 0, 1) := dk_42 (dk_at dksX1_makeready_1 8 rfl rfl)
theorem dX1_makeready_33 : decode cX1_makeready 33 = .ok (.getfield 57, 3) := dk_180 0 57 (dk_at dksX1_makeready_1 9 rfl rfl)
theorem dX1_makeready_36 : decode cX1_makeready 36 = .ok (.iload 4, 2) := dk_21 4 (dk_at dksX1_makeready_1 12 rfl rfl)
theorem dX1_makeready_38 : decode cX1_makeready 38 = .ok (.iaload, 1) := dk_46 (dk_at dksX1_makeready_1 14 rfl rfl)
theorem dX1_makeready_39 : decode cX1_makeready 39 = .ok (.aload_n 1, 1) := dk_43 (dk_at dksX1_makeready_1 15 rfl rfl)
theorem dX1_makeready_40 : decode cX1_makeready 40 = .ok (.iload_n 2, 1) := dk_28 (dk_at dksX1_makeready_1 16 rfl rfl)
theorem dX1_makeready_41 : decode cX1_makeready 41 = .ok (.iload 4, 2) := dk_21 4 (dk_at dksX1_makeready_1 17 rfl rfl)
theorem dX1_makeready_43 : decode cX1_makeready 43 = .ok (.invokevirtual 173, 3) := dk_182 0 173 (dk_at dksX1_makeready_1 19 rfl rfl)
theorem dX1_makeready_46 : decode cX1_makeready 46 = .ok (.if_icmp .ne 7, 3) := dk_160 0 7 (dk_at dksX1_makeready_2 0 rfl rfl)
theorem dX1_makeready_49 : decode cX1_makeready 49 = .ok (.iconst 0, 1) := dk_3 (dk_at dksX1_makeready_2 3 rfl rfl)
theorem dX1_makeready_50 : decode cX1_makeready 50 = .ok (.goto 5, 3) := dk_167 0 5 (dk_at dksX1_makeready_2 4 rfl rfl)
theorem dX1_makeready_53 : decode cX1_makeready 53 = .ok (.bipush 20, 2) := dk_16 20 (dk_at dksX1_makeready_2 7 rfl rfl)
theorem dX1_makeready_55 : decode cX1_makeready 55 = .ok (.iadd, 1) := dk_96 (dk_at dksX1_makeready_2 9 rfl rfl)
theorem dX1_makeready_56 : decode cX1_makeready 56 = .ok (.istore_n 3, 1) := dk_62 (dk_at dksX1_makeready_2 10 rfl rfl)
theorem dX1_makeready_57 : decode cX1_makeready 57 = .ok (.iinc 4 1, 3) := dk_132 4 1 (dk_at dksX1_makeready_2 11 rfl rfl)
theorem dX1_makeready_60 : decode cX1_makeready 60 = .ok (.goto (-39), 3) := dk_167 255 217 (dk_at dksX1_makeready_2 14 rfl rfl)
theorem dX1_makeready_63 : decode cX1_makeready 63 = .ok (.iload_n 3, 1) := dk_29 (dk_at dksX1_makeready_2 17 rfl rfl)
theorem dX1_makeready_64 : decode cX1_makeready 64 = .ok (.ireturn, 1) := dk_172 (dk_at dksX1_makeready_2 18 rfl rfl)
abbrev cX1_makeready_2 : ByteArray := prog_1_method_23_code
def yX1_makeready_2 : MethodName := ⟨RX1, "makeready", "(II)I"⟩
def dkwX1_makeready_2_0 : List UInt8 := [42, 27, 28, 182, 0, 155, 78, 42, 45, 28, 182, 0, 193, 172]
abbrev dktX1_makeready_2_0 : List UInt8 := dkwX1_makeready_2_0 ++ []
theorem dksX1_makeready_2_0 : cX1_makeready_2.data.toList.drop 0 = dktX1_makeready_2_0 := by decide +kernel
theorem dX1_makeready_2_0 : decode cX1_makeready_2 0 = .ok (.aload_n 0, 1) := dk_42 (dk_at dksX1_makeready_2_0 0 rfl rfl)
theorem dX1_makeready_2_1 : decode cX1_makeready_2 1 = .ok (.iload_n 1, 1) := dk_27 (dk_at dksX1_makeready_2_0 1 rfl rfl)
theorem dX1_makeready_2_2 : decode cX1_makeready_2 2 = .ok (.iload_n 2, 1) := dk_28 (dk_at dksX1_makeready_2_0 2 rfl rfl)
theorem dX1_makeready_2_3 : decode cX1_makeready_2 3 = .ok (.invokevirtual 155, 3) := dk_182 0 155 (dk_at dksX1_makeready_2_0 3 rfl rfl)
theorem dX1_makeready_2_6 : decode cX1_makeready_2 6 = .ok (.astore_n 3, 1) := dk_78 (dk_at dksX1_makeready_2_0 6 rfl rfl)
theorem dX1_makeready_2_7 : decode cX1_makeready_2 7 = .ok (.aload_n 0, 1) := dk_42 (dk_at dksX1_makeready_2_0 7 rfl rfl)
theorem dX1_makeready_2_8 : decode cX1_makeready_2 8 = .ok (.aload_n 3, 1) := dk_45 (dk_at dksX1_makeready_2_0 8 rfl rfl)
theorem dX1_makeready_2_9 : decode cX1_makeready_2 9 = .ok (.iload_n 2, 1) := dk_28 (dk_at dksX1_makeready_2_0 9 rfl rfl)
theorem dX1_makeready_2_10 : decode cX1_makeready_2 10 = .ok (.invokevirtual 193, 3) := dk_182 0 193 (dk_at dksX1_makeready_2_0 10 rfl rfl)
theorem dX1_makeready_2_13 : decode cX1_makeready_2 13 = .ok (.ireturn, 1) := dk_172 (dk_at dksX1_makeready_2_0 13 rfl rfl)
abbrev cX1_leastMakeready : ByteArray := prog_1_method_25_code
def yX1_leastMakeready : MethodName := ⟨RX1, "leastMakeready", "(I)I"⟩
def dkwX1_leastMakeready_6 : List UInt8 := [172]
abbrev dktX1_leastMakeready_6 : List UInt8 := dkwX1_leastMakeready_6 ++ []
def dkwX1_leastMakeready_5 : List UInt8 := [25, 6, 21, 8, 46, 54, 9, 21, 5, 21, 9, 184, 0, 218, 54, 5, 132, 8, 1, 167, 255, 230, 21, 5]
abbrev dktX1_leastMakeready_5 : List UInt8 := dkwX1_leastMakeready_5 ++ dktX1_leastMakeready_6
def dkwX1_leastMakeready_4 : List UInt8 := [25, 4, 190, 4, 100, 50, 58, 6, 25, 6, 190, 54, 7, 3, 54, 8, 21, 8, 21, 7, 162, 0, 25]
abbrev dktX1_leastMakeready_4 : List UInt8 := dkwX1_leastMakeready_4 ++ dktX1_leastMakeready_5
def dkwX1_leastMakeready_3 : List UInt8 := [21, 6, 184, 0, 213, 79, 132, 6, 1, 167, 255, 210, 132, 5, 1, 167, 255, 193, 18, 217, 54, 5, 25, 4]
abbrev dktX1_leastMakeready_3 : List UInt8 := dkwX1_leastMakeready_3 ++ dktX1_leastMakeready_4
def dkwX1_leastMakeready_2 : List UInt8 := [21, 5, 4, 21, 6, 120, 160, 0, 13, 42, 44, 21, 6, 182, 0, 193, 167, 0, 13, 44, 25, 4, 21, 5]
abbrev dktX1_leastMakeready_2 : List UInt8 := dkwX1_leastMakeready_2 ++ dktX1_leastMakeready_3
def dkwX1_leastMakeready_1 : List UInt8 := [21, 5, 25, 4, 190, 162, 0, 61, 3, 54, 6, 21, 6, 29, 162, 0, 46, 25, 4, 21, 5, 50, 21, 6]
abbrev dktX1_leastMakeready_1 : List UInt8 := dkwX1_leastMakeready_1 ++ dktX1_leastMakeready_2
def dkwX1_leastMakeready_0 : List UInt8 := [42, 27, 182, 0, 91, 77, 44, 182, 0, 94, 62, 4, 29, 120, 29, 197, 0, 211, 2, 58, 4, 4, 54, 5]
abbrev dktX1_leastMakeready_0 : List UInt8 := dkwX1_leastMakeready_0 ++ dktX1_leastMakeready_1
theorem dksX1_leastMakeready_0 : cX1_leastMakeready.data.toList.drop 0 = dktX1_leastMakeready_0 := by decide +kernel
theorem dksX1_leastMakeready_1 : cX1_leastMakeready.data.toList.drop 24 = dktX1_leastMakeready_1 := dk_seg dksX1_leastMakeready_0 24 rfl rfl
theorem dksX1_leastMakeready_2 : cX1_leastMakeready.data.toList.drop 48 = dktX1_leastMakeready_2 := dk_seg dksX1_leastMakeready_1 24 rfl rfl
theorem dksX1_leastMakeready_3 : cX1_leastMakeready.data.toList.drop 72 = dktX1_leastMakeready_3 := dk_seg dksX1_leastMakeready_2 24 rfl rfl
theorem dksX1_leastMakeready_4 : cX1_leastMakeready.data.toList.drop 96 = dktX1_leastMakeready_4 := dk_seg dksX1_leastMakeready_3 24 rfl rfl
theorem dksX1_leastMakeready_5 : cX1_leastMakeready.data.toList.drop 119 = dktX1_leastMakeready_5 := dk_seg dksX1_leastMakeready_4 23 rfl rfl
theorem dksX1_leastMakeready_6 : cX1_leastMakeready.data.toList.drop 143 = dktX1_leastMakeready_6 := dk_seg dksX1_leastMakeready_5 24 rfl rfl
theorem dX1_leastMakeready_0 : decode cX1_leastMakeready 0 = .ok (.aload_n 0, 1) := dk_42 (dk_at dksX1_leastMakeready_0 0 rfl rfl)
theorem dX1_leastMakeready_1 : decode cX1_leastMakeready 1 = .ok (.iload_n 1, 1) := dk_27 (dk_at dksX1_leastMakeready_0 1 rfl rfl)
theorem dX1_leastMakeready_2 : decode cX1_leastMakeready 2 = .ok (.invokevirtual 91, 3) := dk_182 0 91 (dk_at dksX1_leastMakeready_0 2 rfl rfl)
theorem dX1_leastMakeready_5 : decode cX1_leastMakeready 5 = .ok (.astore_n 2, 1) := dk_77 (dk_at dksX1_leastMakeready_0 5 rfl rfl)
theorem dX1_leastMakeready_6 : decode cX1_leastMakeready 6 = .ok (.aload_n 2, 1) := dk_44 (dk_at dksX1_leastMakeready_0 6 rfl rfl)
theorem dX1_leastMakeready_7 : decode cX1_leastMakeready 7 = .ok (.invokevirtual 94, 3) := dk_182 0 94 (dk_at dksX1_leastMakeready_0 7 rfl rfl)
theorem dX1_leastMakeready_10 : decode cX1_leastMakeready 10 = .ok (.istore_n 3, 1) := dk_62 (dk_at dksX1_leastMakeready_0 10 rfl rfl)
theorem dX1_leastMakeready_11 : decode cX1_leastMakeready 11 = .ok (.iconst 1, 1) := dk_4 (dk_at dksX1_leastMakeready_0 11 rfl rfl)
theorem dX1_leastMakeready_12 : decode cX1_leastMakeready 12 = .ok (.iload_n 3, 1) := dk_29 (dk_at dksX1_leastMakeready_0 12 rfl rfl)
theorem dX1_leastMakeready_13 : decode cX1_leastMakeready 13 = .ok (.ishl, 1) := dk_120 (dk_at dksX1_leastMakeready_0 13 rfl rfl)
theorem dX1_leastMakeready_14 : decode cX1_leastMakeready 14 = .ok (.iload_n 3, 1) := dk_29 (dk_at dksX1_leastMakeready_0 14 rfl rfl)
theorem dX1_leastMakeready_15 : decode cX1_leastMakeready 15 = .ok (.multianewarray 211 2, 4) := by decide +kernel
theorem dX1_leastMakeready_19 : decode cX1_leastMakeready 19 = .ok (.astore 4, 2) := dk_58 4 (dk_at dksX1_leastMakeready_0 19 rfl rfl)
theorem dX1_leastMakeready_21 : decode cX1_leastMakeready 21 = .ok (.iconst 1, 1) := dk_4 (dk_at dksX1_leastMakeready_0 21 rfl rfl)
theorem dX1_leastMakeready_22 : decode cX1_leastMakeready 22 = .ok (.istore 5, 2) := dk_54 5 (dk_at dksX1_leastMakeready_0 22 rfl rfl)
theorem dX1_leastMakeready_24 : decode cX1_leastMakeready 24 = .ok (.iload 5, 2) := dk_21 5 (dk_at dksX1_leastMakeready_1 0 rfl rfl)
theorem dX1_leastMakeready_26 : decode cX1_leastMakeready 26 = .ok (.aload 4, 2) := dk_25 4 (dk_at dksX1_leastMakeready_1 2 rfl rfl)
theorem dX1_leastMakeready_28 : decode cX1_leastMakeready 28 = .ok (.arraylength, 1) := dk_190 (dk_at dksX1_leastMakeready_1 4 rfl rfl)
theorem dX1_leastMakeready_29 : decode cX1_leastMakeready 29 = .ok (.if_icmp .ge 61, 3) := dk_162 0 61 (dk_at dksX1_leastMakeready_1 5 rfl rfl)
theorem dX1_leastMakeready_32 : decode cX1_leastMakeready 32 = .ok (.iconst 0, 1) := dk_3 (dk_at dksX1_leastMakeready_1 8 rfl rfl)
theorem dX1_leastMakeready_33 : decode cX1_leastMakeready 33 = .ok (.istore 6, 2) := dk_54 6 (dk_at dksX1_leastMakeready_1 9 rfl rfl)
theorem dX1_leastMakeready_35 : decode cX1_leastMakeready 35 = .ok (.iload 6, 2) := dk_21 6 (dk_at dksX1_leastMakeready_1 11 rfl rfl)
theorem dX1_leastMakeready_37 : decode cX1_leastMakeready 37 = .ok (.iload_n 3, 1) := dk_29 (dk_at dksX1_leastMakeready_1 13 rfl rfl)
theorem dX1_leastMakeready_38 : decode cX1_leastMakeready 38 = .ok (.if_icmp .ge 46, 3) := dk_162 0 46 (dk_at dksX1_leastMakeready_1 14 rfl rfl)
theorem dX1_leastMakeready_41 : decode cX1_leastMakeready 41 = .ok (.aload 4, 2) := dk_25 4 (dk_at dksX1_leastMakeready_1 17 rfl rfl)
theorem dX1_leastMakeready_43 : decode cX1_leastMakeready 43 = .ok (.iload 5, 2) := dk_21 5 (dk_at dksX1_leastMakeready_1 19 rfl rfl)
theorem dX1_leastMakeready_45 : decode cX1_leastMakeready 45 = .ok (.aaload, 1) := dk_50 (dk_at dksX1_leastMakeready_1 21 rfl rfl)
theorem dX1_leastMakeready_46 : decode cX1_leastMakeready 46 = .ok (.iload 6, 2) := dk_21 6 (dk_at dksX1_leastMakeready_1 22 rfl rfl)
theorem dX1_leastMakeready_48 : decode cX1_leastMakeready 48 = .ok (.iload 5, 2) := dk_21 5 (dk_at dksX1_leastMakeready_2 0 rfl rfl)
theorem dX1_leastMakeready_50 : decode cX1_leastMakeready 50 = .ok (.iconst 1, 1) := dk_4 (dk_at dksX1_leastMakeready_2 2 rfl rfl)
theorem dX1_leastMakeready_51 : decode cX1_leastMakeready 51 = .ok (.iload 6, 2) := dk_21 6 (dk_at dksX1_leastMakeready_2 3 rfl rfl)
theorem dX1_leastMakeready_53 : decode cX1_leastMakeready 53 = .ok (.ishl, 1) := dk_120 (dk_at dksX1_leastMakeready_2 5 rfl rfl)
theorem dX1_leastMakeready_54 : decode cX1_leastMakeready 54 = .ok (.if_icmp .ne 13, 3) := dk_160 0 13 (dk_at dksX1_leastMakeready_2 6 rfl rfl)
theorem dX1_leastMakeready_57 : decode cX1_leastMakeready 57 = .ok (.aload_n 0, 1) := dk_42 (dk_at dksX1_leastMakeready_2 9 rfl rfl)
theorem dX1_leastMakeready_58 : decode cX1_leastMakeready 58 = .ok (.aload_n 2, 1) := dk_44 (dk_at dksX1_leastMakeready_2 10 rfl rfl)
theorem dX1_leastMakeready_59 : decode cX1_leastMakeready 59 = .ok (.iload 6, 2) := dk_21 6 (dk_at dksX1_leastMakeready_2 11 rfl rfl)
theorem dX1_leastMakeready_61 : decode cX1_leastMakeready 61 = .ok (.invokevirtual 193, 3) := dk_182 0 193 (dk_at dksX1_leastMakeready_2 13 rfl rfl)
theorem dX1_leastMakeready_64 : decode cX1_leastMakeready 64 = .ok (.goto 13, 3) := dk_167 0 13 (dk_at dksX1_leastMakeready_2 16 rfl rfl)
theorem dX1_leastMakeready_67 : decode cX1_leastMakeready 67 = .ok (.aload_n 2, 1) := dk_44 (dk_at dksX1_leastMakeready_2 19 rfl rfl)
theorem dX1_leastMakeready_68 : decode cX1_leastMakeready 68 = .ok (.aload 4, 2) := dk_25 4 (dk_at dksX1_leastMakeready_2 20 rfl rfl)
theorem dX1_leastMakeready_70 : decode cX1_leastMakeready 70 = .ok (.iload 5, 2) := dk_21 5 (dk_at dksX1_leastMakeready_2 22 rfl rfl)
theorem dX1_leastMakeready_72 : decode cX1_leastMakeready 72 = .ok (.iload 6, 2) := dk_21 6 (dk_at dksX1_leastMakeready_3 0 rfl rfl)
theorem dX1_leastMakeready_74 : decode cX1_leastMakeready 74 = .ok (.invokestatic 213, 3) := dk_184 0 213 (dk_at dksX1_leastMakeready_3 2 rfl rfl)
theorem dX1_leastMakeready_77 : decode cX1_leastMakeready 77 = .ok (.iastore, 1) := dk_79 (dk_at dksX1_leastMakeready_3 5 rfl rfl)
theorem dX1_leastMakeready_78 : decode cX1_leastMakeready 78 = .ok (.iinc 6 1, 3) := dk_132 6 1 (dk_at dksX1_leastMakeready_3 6 rfl rfl)
theorem dX1_leastMakeready_81 : decode cX1_leastMakeready 81 = .ok (.goto (-46), 3) := dk_167 255 210 (dk_at dksX1_leastMakeready_3 9 rfl rfl)
theorem dX1_leastMakeready_84 : decode cX1_leastMakeready 84 = .ok (.iinc 5 1, 3) := dk_132 5 1 (dk_at dksX1_leastMakeready_3 12 rfl rfl)
theorem dX1_leastMakeready_87 : decode cX1_leastMakeready 87 = .ok (.goto (-63), 3) := dk_167 255 193 (dk_at dksX1_leastMakeready_3 15 rfl rfl)
theorem dX1_leastMakeready_90 : decode cX1_leastMakeready 90 = .ok (.ldc 217, 2) := dk_18 217 (dk_at dksX1_leastMakeready_3 18 rfl rfl)
theorem dX1_leastMakeready_92 : decode cX1_leastMakeready 92 = .ok (.istore 5, 2) := dk_54 5 (dk_at dksX1_leastMakeready_3 20 rfl rfl)
theorem dX1_leastMakeready_94 : decode cX1_leastMakeready 94 = .ok (.aload 4, 2) := dk_25 4 (dk_at dksX1_leastMakeready_3 22 rfl rfl)
theorem dX1_leastMakeready_96 : decode cX1_leastMakeready 96 = .ok (.aload 4, 2) := dk_25 4 (dk_at dksX1_leastMakeready_4 0 rfl rfl)
theorem dX1_leastMakeready_98 : decode cX1_leastMakeready 98 = .ok (.arraylength, 1) := dk_190 (dk_at dksX1_leastMakeready_4 2 rfl rfl)
theorem dX1_leastMakeready_99 : decode cX1_leastMakeready 99 = .ok (.iconst 1, 1) := dk_4 (dk_at dksX1_leastMakeready_4 3 rfl rfl)
theorem dX1_leastMakeready_100 : decode cX1_leastMakeready 100 = .ok (.isub, 1) := dk_100 (dk_at dksX1_leastMakeready_4 4 rfl rfl)
theorem dX1_leastMakeready_101 : decode cX1_leastMakeready 101 = .ok (.aaload, 1) := dk_50 (dk_at dksX1_leastMakeready_4 5 rfl rfl)
theorem dX1_leastMakeready_102 : decode cX1_leastMakeready 102 = .ok (.astore 6, 2) := dk_58 6 (dk_at dksX1_leastMakeready_4 6 rfl rfl)
theorem dX1_leastMakeready_104 : decode cX1_leastMakeready 104 = .ok (.aload 6, 2) := dk_25 6 (dk_at dksX1_leastMakeready_4 8 rfl rfl)
theorem dX1_leastMakeready_106 : decode cX1_leastMakeready 106 = .ok (.arraylength, 1) := dk_190 (dk_at dksX1_leastMakeready_4 10 rfl rfl)
theorem dX1_leastMakeready_107 : decode cX1_leastMakeready 107 = .ok (.istore 7, 2) := dk_54 7 (dk_at dksX1_leastMakeready_4 11 rfl rfl)
theorem dX1_leastMakeready_109 : decode cX1_leastMakeready 109 = .ok (.iconst 0, 1) := dk_3 (dk_at dksX1_leastMakeready_4 13 rfl rfl)
theorem dX1_leastMakeready_110 : decode cX1_leastMakeready 110 = .ok (.istore 8, 2) := dk_54 8 (dk_at dksX1_leastMakeready_4 14 rfl rfl)
theorem dX1_leastMakeready_112 : decode cX1_leastMakeready 112 = .ok (.iload 8, 2) := dk_21 8 (dk_at dksX1_leastMakeready_4 16 rfl rfl)
theorem dX1_leastMakeready_114 : decode cX1_leastMakeready 114 = .ok (.iload 7, 2) := dk_21 7 (dk_at dksX1_leastMakeready_4 18 rfl rfl)
theorem dX1_leastMakeready_116 : decode cX1_leastMakeready 116 = .ok (.if_icmp .ge 25, 3) := dk_162 0 25 (dk_at dksX1_leastMakeready_4 20 rfl rfl)
theorem dX1_leastMakeready_119 : decode cX1_leastMakeready 119 = .ok (.aload 6, 2) := dk_25 6 (dk_at dksX1_leastMakeready_5 0 rfl rfl)
theorem dX1_leastMakeready_121 : decode cX1_leastMakeready 121 = .ok (.iload 8, 2) := dk_21 8 (dk_at dksX1_leastMakeready_5 2 rfl rfl)
theorem dX1_leastMakeready_123 : decode cX1_leastMakeready 123 = .ok (.iaload, 1) := dk_46 (dk_at dksX1_leastMakeready_5 4 rfl rfl)
theorem dX1_leastMakeready_124 : decode cX1_leastMakeready 124 = .ok (.istore 9, 2) := dk_54 9 (dk_at dksX1_leastMakeready_5 5 rfl rfl)
theorem dX1_leastMakeready_126 : decode cX1_leastMakeready 126 = .ok (.iload 5, 2) := dk_21 5 (dk_at dksX1_leastMakeready_5 7 rfl rfl)
theorem dX1_leastMakeready_128 : decode cX1_leastMakeready 128 = .ok (.iload 9, 2) := dk_21 9 (dk_at dksX1_leastMakeready_5 9 rfl rfl)
theorem dX1_leastMakeready_130 : decode cX1_leastMakeready 130 = .ok (.invokestatic 218, 3) := dk_184 0 218 (dk_at dksX1_leastMakeready_5 11 rfl rfl)
theorem dX1_leastMakeready_133 : decode cX1_leastMakeready 133 = .ok (.istore 5, 2) := dk_54 5 (dk_at dksX1_leastMakeready_5 14 rfl rfl)
theorem dX1_leastMakeready_135 : decode cX1_leastMakeready 135 = .ok (.iinc 8 1, 3) := dk_132 8 1 (dk_at dksX1_leastMakeready_5 16 rfl rfl)
theorem dX1_leastMakeready_138 : decode cX1_leastMakeready 138 = .ok (.goto (-26), 3) := dk_167 255 230 (dk_at dksX1_leastMakeready_5 19 rfl rfl)
theorem dX1_leastMakeready_141 : decode cX1_leastMakeready 141 = .ok (.iload 5, 2) := dk_21 5 (dk_at dksX1_leastMakeready_5 22 rfl rfl)
theorem dX1_leastMakeready_143 : decode cX1_leastMakeready 143 = .ok (.ireturn, 1) := dk_172 (dk_at dksX1_leastMakeready_6 0 rfl rfl)
abbrev cX1_leastBefore : ByteArray := prog_1_method_26_code
def yX1_leastBefore : MethodName := ⟨RX1, "leastBefore", "(LBinderyDesk$Job;[[III)I"⟩
def dkwX1_leastBefore_3 : List UInt8 := [172]
abbrev dktX1_leastBefore_3 : List UInt8 := dkwX1_leastBefore_3 ++ []
def dkwX1_leastBefore_2 : List UInt8 := [21, 6, 46, 42, 21, 6, 29, 184, 0, 223, 96, 184, 0, 218, 54, 4, 132, 6, 1, 167, 255, 205, 21, 4]
abbrev dktX1_leastBefore_2 : List UInt8 := dkwX1_leastBefore_2 ++ dktX1_leastBefore_3
def dkwX1_leastBefore_1 : List UInt8 := [43, 28, 50, 190, 162, 0, 42, 21, 5, 21, 6, 122, 4, 126, 4, 160, 0, 25, 21, 4, 43, 21, 5, 50]
abbrev dktX1_leastBefore_1 : List UInt8 := dkwX1_leastBefore_1 ++ dktX1_leastBefore_2
def dkwX1_leastBefore_0 : List UInt8 := [18, 217, 54, 4, 28, 4, 29, 120, 2, 130, 126, 54, 5, 3, 54, 6, 21, 5, 28, 159, 0, 51, 21, 6]
abbrev dktX1_leastBefore_0 : List UInt8 := dkwX1_leastBefore_0 ++ dktX1_leastBefore_1
theorem dksX1_leastBefore_0 : cX1_leastBefore.data.toList.drop 0 = dktX1_leastBefore_0 := by decide +kernel
theorem dksX1_leastBefore_1 : cX1_leastBefore.data.toList.drop 24 = dktX1_leastBefore_1 := dk_seg dksX1_leastBefore_0 24 rfl rfl
theorem dksX1_leastBefore_2 : cX1_leastBefore.data.toList.drop 48 = dktX1_leastBefore_2 := dk_seg dksX1_leastBefore_1 24 rfl rfl
theorem dksX1_leastBefore_3 : cX1_leastBefore.data.toList.drop 72 = dktX1_leastBefore_3 := dk_seg dksX1_leastBefore_2 24 rfl rfl
theorem dX1_leastBefore_0 : decode cX1_leastBefore 0 = .ok (.ldc 217, 2) := dk_18 217 (dk_at dksX1_leastBefore_0 0 rfl rfl)
theorem dX1_leastBefore_2 : decode cX1_leastBefore 2 = .ok (.istore 4, 2) := dk_54 4 (dk_at dksX1_leastBefore_0 2 rfl rfl)
theorem dX1_leastBefore_4 : decode cX1_leastBefore 4 = .ok (.iload_n 2, 1) := dk_28 (dk_at dksX1_leastBefore_0 4 rfl rfl)
theorem dX1_leastBefore_5 : decode cX1_leastBefore 5 = .ok (.iconst 1, 1) := dk_4 (dk_at dksX1_leastBefore_0 5 rfl rfl)
theorem dX1_leastBefore_6 : decode cX1_leastBefore 6 = .ok (.iload_n 3, 1) := dk_29 (dk_at dksX1_leastBefore_0 6 rfl rfl)
theorem dX1_leastBefore_7 : decode cX1_leastBefore 7 = .ok (.ishl, 1) := dk_120 (dk_at dksX1_leastBefore_0 7 rfl rfl)
theorem dX1_leastBefore_8 : decode cX1_leastBefore 8 = .ok (.iconst (-1), 1) := dk_2 (dk_at dksX1_leastBefore_0 8 rfl rfl)
theorem dX1_leastBefore_9 : decode cX1_leastBefore 9 = .ok (.ixor, 1) := dk_130 (dk_at dksX1_leastBefore_0 9 rfl rfl)
theorem dX1_leastBefore_10 : decode cX1_leastBefore 10 = .ok (.iand, 1) := dk_126 (dk_at dksX1_leastBefore_0 10 rfl rfl)
theorem dX1_leastBefore_11 : decode cX1_leastBefore 11 = .ok (.istore 5, 2) := dk_54 5 (dk_at dksX1_leastBefore_0 11 rfl rfl)
theorem dX1_leastBefore_13 : decode cX1_leastBefore 13 = .ok (.iconst 0, 1) := dk_3 (dk_at dksX1_leastBefore_0 13 rfl rfl)
theorem dX1_leastBefore_14 : decode cX1_leastBefore 14 = .ok (.istore 6, 2) := dk_54 6 (dk_at dksX1_leastBefore_0 14 rfl rfl)
theorem dX1_leastBefore_16 : decode cX1_leastBefore 16 = .ok (.iload 5, 2) := dk_21 5 (dk_at dksX1_leastBefore_0 16 rfl rfl)
theorem dX1_leastBefore_18 : decode cX1_leastBefore 18 = .ok (.iload_n 2, 1) := dk_28 (dk_at dksX1_leastBefore_0 18 rfl rfl)
theorem dX1_leastBefore_19 : decode cX1_leastBefore 19 = .ok (.if_icmp .eq 51, 3) := dk_159 0 51 (dk_at dksX1_leastBefore_0 19 rfl rfl)
theorem dX1_leastBefore_22 : decode cX1_leastBefore 22 = .ok (.iload 6, 2) := dk_21 6 (dk_at dksX1_leastBefore_0 22 rfl rfl)
theorem dX1_leastBefore_24 : decode cX1_leastBefore 24 = .ok (.aload_n 1, 1) := dk_43 (dk_at dksX1_leastBefore_1 0 rfl rfl)
theorem dX1_leastBefore_25 : decode cX1_leastBefore 25 = .ok (.iload_n 2, 1) := dk_28 (dk_at dksX1_leastBefore_1 1 rfl rfl)
theorem dX1_leastBefore_26 : decode cX1_leastBefore 26 = .ok (.aaload, 1) := dk_50 (dk_at dksX1_leastBefore_1 2 rfl rfl)
theorem dX1_leastBefore_27 : decode cX1_leastBefore 27 = .ok (.arraylength, 1) := dk_190 (dk_at dksX1_leastBefore_1 3 rfl rfl)
theorem dX1_leastBefore_28 : decode cX1_leastBefore 28 = .ok (.if_icmp .ge 42, 3) := dk_162 0 42 (dk_at dksX1_leastBefore_1 4 rfl rfl)
theorem dX1_leastBefore_31 : decode cX1_leastBefore 31 = .ok (.iload 5, 2) := dk_21 5 (dk_at dksX1_leastBefore_1 7 rfl rfl)
theorem dX1_leastBefore_33 : decode cX1_leastBefore 33 = .ok (.iload 6, 2) := dk_21 6 (dk_at dksX1_leastBefore_1 9 rfl rfl)
theorem dX1_leastBefore_35 : decode cX1_leastBefore 35 = .ok (.ishr, 1) := dk_122 (dk_at dksX1_leastBefore_1 11 rfl rfl)
theorem dX1_leastBefore_36 : decode cX1_leastBefore 36 = .ok (.iconst 1, 1) := dk_4 (dk_at dksX1_leastBefore_1 12 rfl rfl)
theorem dX1_leastBefore_37 : decode cX1_leastBefore 37 = .ok (.iand, 1) := dk_126 (dk_at dksX1_leastBefore_1 13 rfl rfl)
theorem dX1_leastBefore_38 : decode cX1_leastBefore 38 = .ok (.iconst 1, 1) := dk_4 (dk_at dksX1_leastBefore_1 14 rfl rfl)
theorem dX1_leastBefore_39 : decode cX1_leastBefore 39 = .ok (.if_icmp .ne 25, 3) := dk_160 0 25 (dk_at dksX1_leastBefore_1 15 rfl rfl)
theorem dX1_leastBefore_42 : decode cX1_leastBefore 42 = .ok (.iload 4, 2) := dk_21 4 (dk_at dksX1_leastBefore_1 18 rfl rfl)
theorem dX1_leastBefore_44 : decode cX1_leastBefore 44 = .ok (.aload_n 1, 1) := dk_43 (dk_at dksX1_leastBefore_1 20 rfl rfl)
theorem dX1_leastBefore_45 : decode cX1_leastBefore 45 = .ok (.iload 5, 2) := dk_21 5 (dk_at dksX1_leastBefore_1 21 rfl rfl)
theorem dX1_leastBefore_47 : decode cX1_leastBefore 47 = .ok (.aaload, 1) := dk_50 (dk_at dksX1_leastBefore_1 23 rfl rfl)
theorem dX1_leastBefore_48 : decode cX1_leastBefore 48 = .ok (.iload 6, 2) := dk_21 6 (dk_at dksX1_leastBefore_2 0 rfl rfl)
theorem dX1_leastBefore_50 : decode cX1_leastBefore 50 = .ok (.iaload, 1) := dk_46 (dk_at dksX1_leastBefore_2 2 rfl rfl)
theorem dX1_leastBefore_51 : decode cX1_leastBefore 51 = .ok (.aload_n 0, 1) := dk_42 (dk_at dksX1_leastBefore_2 3 rfl rfl)
theorem dX1_leastBefore_52 : decode cX1_leastBefore 52 = .ok (.iload 6, 2) := dk_21 6 (dk_at dksX1_leastBefore_2 4 rfl rfl)
theorem dX1_leastBefore_54 : decode cX1_leastBefore 54 = .ok (.iload_n 3, 1) := dk_29 (dk_at dksX1_leastBefore_2 6 rfl rfl)
theorem dX1_leastBefore_55 : decode cX1_leastBefore 55 = .ok (.invokestatic 223, 3) := dk_184 0 223 (dk_at dksX1_leastBefore_2 7 rfl rfl)
theorem dX1_leastBefore_58 : decode cX1_leastBefore 58 = .ok (.iadd, 1) := dk_96 (dk_at dksX1_leastBefore_2 10 rfl rfl)
theorem dX1_leastBefore_59 : decode cX1_leastBefore 59 = .ok (.invokestatic 218, 3) := dk_184 0 218 (dk_at dksX1_leastBefore_2 11 rfl rfl)
theorem dX1_leastBefore_62 : decode cX1_leastBefore 62 = .ok (.istore 4, 2) := dk_54 4 (dk_at dksX1_leastBefore_2 14 rfl rfl)
theorem dX1_leastBefore_64 : decode cX1_leastBefore 64 = .ok (.iinc 6 1, 3) := dk_132 6 1 (dk_at dksX1_leastBefore_2 16 rfl rfl)
theorem dX1_leastBefore_67 : decode cX1_leastBefore 67 = .ok (.goto (-51), 3) := dk_167 255 205 (dk_at dksX1_leastBefore_2 19 rfl rfl)
theorem dX1_leastBefore_70 : decode cX1_leastBefore 70 = .ok (.iload 4, 2) := dk_21 4 (dk_at dksX1_leastBefore_2 22 rfl rfl)
theorem dX1_leastBefore_72 : decode cX1_leastBefore 72 = .ok (.ireturn, 1) := dk_172 (dk_at dksX1_leastBefore_3 0 rfl rfl)
abbrev cX1_between : ByteArray := prog_1_method_24_code
def yX1_between : MethodName := ⟨RX1, "between", "(LBinderyDesk$Job;II)I"⟩
def dkwX1_between_1 : List UInt8 := [182, 0, 173, 160, 0, 7, 3, 167, 0, 5, 16, 20, 96, 62, 132, 4, 1, 167, 255, 221, 29, 172]
abbrev dktX1_between_1 : List UInt8 := dkwX1_between_1 ++ []
def dkwX1_between_0 : List UInt8 := [3, 62, 3, 54, 4, 21, 4, 5, 162, 0, 35, 29, 42, 27, 21, 4, 182, 0, 173, 42, 28, 21, 4]
abbrev dktX1_between_0 : List UInt8 := dkwX1_between_0 ++ dktX1_between_1
theorem dksX1_between_0 : cX1_between.data.toList.drop 0 = dktX1_between_0 := by decide +kernel
theorem dksX1_between_1 : cX1_between.data.toList.drop 23 = dktX1_between_1 := dk_seg dksX1_between_0 23 rfl rfl
theorem dX1_between_0 : decode cX1_between 0 = .ok (.iconst 0, 1) := dk_3 (dk_at dksX1_between_0 0 rfl rfl)
theorem dX1_between_1 : decode cX1_between 1 = .ok (.istore_n 3, 1) := dk_62 (dk_at dksX1_between_0 1 rfl rfl)
theorem dX1_between_2 : decode cX1_between 2 = .ok (.iconst 0, 1) := dk_3 (dk_at dksX1_between_0 2 rfl rfl)
theorem dX1_between_3 : decode cX1_between 3 = .ok (.istore 4, 2) := dk_54 4 (dk_at dksX1_between_0 3 rfl rfl)
theorem dX1_between_5 : decode cX1_between 5 = .ok (.iload 4, 2) := dk_21 4 (dk_at dksX1_between_0 5 rfl rfl)
theorem dX1_between_7 : decode cX1_between 7 = .ok (.iconst 2, 1) := dk_5 (dk_at dksX1_between_0 7 rfl rfl)
theorem dX1_between_8 : decode cX1_between 8 = .ok (.if_icmp .ge 35, 3) := dk_162 0 35 (dk_at dksX1_between_0 8 rfl rfl)
theorem dX1_between_11 : decode cX1_between 11 = .ok (.iload_n 3, 1) := dk_29 (dk_at dksX1_between_0 11 rfl rfl)
theorem dX1_between_12 : decode cX1_between 12 = .ok (.aload_n 0, 1) := dk_42 (dk_at dksX1_between_0 12 rfl rfl)
theorem dX1_between_13 : decode cX1_between 13 = .ok (.iload_n 1, 1) := dk_27 (dk_at dksX1_between_0 13 rfl rfl)
theorem dX1_between_14 : decode cX1_between 14 = .ok (.iload 4, 2) := dk_21 4 (dk_at dksX1_between_0 14 rfl rfl)
theorem dX1_between_16 : decode cX1_between 16 = .ok (.invokevirtual 173, 3) := dk_182 0 173 (dk_at dksX1_between_0 16 rfl rfl)
theorem dX1_between_19 : decode cX1_between 19 = .ok (.aload_n 0, 1) := dk_42 (dk_at dksX1_between_0 19 rfl rfl)
theorem dX1_between_20 : decode cX1_between 20 = .ok (.iload_n 2, 1) := dk_28 (dk_at dksX1_between_0 20 rfl rfl)
theorem dX1_between_21 : decode cX1_between 21 = .ok (.iload 4, 2) := dk_21 4 (dk_at dksX1_between_0 21 rfl rfl)
theorem dX1_between_23 : decode cX1_between 23 = .ok (.invokevirtual 173, 3) := dk_182 0 173 (dk_at dksX1_between_1 0 rfl rfl)
theorem dX1_between_26 : decode cX1_between 26 = .ok (.if_icmp .ne 7, 3) := dk_160 0 7 (dk_at dksX1_between_1 3 rfl rfl)
theorem dX1_between_29 : decode cX1_between 29 = .ok (.iconst 0, 1) := dk_3 (dk_at dksX1_between_1 6 rfl rfl)
theorem dX1_between_30 : decode cX1_between 30 = .ok (.goto 5, 3) := dk_167 0 5 (dk_at dksX1_between_1 7 rfl rfl)
theorem dX1_between_33 : decode cX1_between 33 = .ok (.bipush 20, 2) := dk_16 20 (dk_at dksX1_between_1 10 rfl rfl)
theorem dX1_between_35 : decode cX1_between 35 = .ok (.iadd, 1) := dk_96 (dk_at dksX1_between_1 12 rfl rfl)
theorem dX1_between_36 : decode cX1_between 36 = .ok (.istore_n 3, 1) := dk_62 (dk_at dksX1_between_1 13 rfl rfl)
theorem dX1_between_37 : decode cX1_between 37 = .ok (.iinc 4 1, 3) := dk_132 4 1 (dk_at dksX1_between_1 14 rfl rfl)
theorem dX1_between_40 : decode cX1_between 40 = .ok (.goto (-35), 3) := dk_167 255 221 (dk_at dksX1_between_1 17 rfl rfl)
theorem dX1_between_43 : decode cX1_between 43 = .ok (.iload_n 3, 1) := dk_29 (dk_at dksX1_between_1 20 rfl rfl)
theorem dX1_between_44 : decode cX1_between 44 = .ok (.ireturn, 1) := dk_172 (dk_at dksX1_between_1 21 rfl rfl)
abbrev cX1_leastByTrying : ByteArray := prog_1_method_28_code
def yX1_leastByTrying : MethodName := ⟨RX1, "leastByTrying", "(I)I"⟩
def dkwX1_leastByTrying_1 : List UInt8 := [44, 3, 2, 182, 0, 227, 172]
abbrev dktX1_leastByTrying_1 : List UInt8 := dkwX1_leastByTrying_1 ++ []
def dkwX1_leastByTrying_0 : List UInt8 := [42, 27, 182, 0, 91, 77, 44, 182, 0, 94, 16, 6, 163, 0, 7, 4, 167, 0, 4, 3, 184, 0, 190, 42]
abbrev dktX1_leastByTrying_0 : List UInt8 := dkwX1_leastByTrying_0 ++ dktX1_leastByTrying_1
theorem dksX1_leastByTrying_0 : cX1_leastByTrying.data.toList.drop 0 = dktX1_leastByTrying_0 := by decide +kernel
theorem dksX1_leastByTrying_1 : cX1_leastByTrying.data.toList.drop 24 = dktX1_leastByTrying_1 := dk_seg dksX1_leastByTrying_0 24 rfl rfl
theorem dX1_leastByTrying_0 : decode cX1_leastByTrying 0 = .ok (.aload_n 0, 1) := dk_42 (dk_at dksX1_leastByTrying_0 0 rfl rfl)
theorem dX1_leastByTrying_1 : decode cX1_leastByTrying 1 = .ok (.iload_n 1, 1) := dk_27 (dk_at dksX1_leastByTrying_0 1 rfl rfl)
theorem dX1_leastByTrying_2 : decode cX1_leastByTrying 2 = .ok (.invokevirtual 91, 3) := dk_182 0 91 (dk_at dksX1_leastByTrying_0 2 rfl rfl)
theorem dX1_leastByTrying_5 : decode cX1_leastByTrying 5 = .ok (.astore_n 2, 1) := dk_77 (dk_at dksX1_leastByTrying_0 5 rfl rfl)
theorem dX1_leastByTrying_6 : decode cX1_leastByTrying 6 = .ok (.aload_n 2, 1) := dk_44 (dk_at dksX1_leastByTrying_0 6 rfl rfl)
theorem dX1_leastByTrying_7 : decode cX1_leastByTrying 7 = .ok (.invokevirtual 94, 3) := dk_182 0 94 (dk_at dksX1_leastByTrying_0 7 rfl rfl)
theorem dX1_leastByTrying_10 : decode cX1_leastByTrying 10 = .ok (.bipush 6, 2) := dk_16 6 (dk_at dksX1_leastByTrying_0 10 rfl rfl)
theorem dX1_leastByTrying_12 : decode cX1_leastByTrying 12 = .ok (.if_icmp .gt 7, 3) := dk_163 0 7 (dk_at dksX1_leastByTrying_0 12 rfl rfl)
theorem dX1_leastByTrying_15 : decode cX1_leastByTrying 15 = .ok (.iconst 1, 1) := dk_4 (dk_at dksX1_leastByTrying_0 15 rfl rfl)
theorem dX1_leastByTrying_16 : decode cX1_leastByTrying 16 = .ok (.goto 4, 3) := dk_167 0 4 (dk_at dksX1_leastByTrying_0 16 rfl rfl)
theorem dX1_leastByTrying_19 : decode cX1_leastByTrying 19 = .ok (.iconst 0, 1) := dk_3 (dk_at dksX1_leastByTrying_0 19 rfl rfl)
theorem dX1_leastByTrying_20 : decode cX1_leastByTrying 20 = .ok (.invokestatic 190, 3) := dk_184 0 190 (dk_at dksX1_leastByTrying_0 20 rfl rfl)
theorem dX1_leastByTrying_23 : decode cX1_leastByTrying 23 = .ok (.aload_n 0, 1) := dk_42 (dk_at dksX1_leastByTrying_0 23 rfl rfl)
theorem dX1_leastByTrying_24 : decode cX1_leastByTrying 24 = .ok (.aload_n 2, 1) := dk_44 (dk_at dksX1_leastByTrying_1 0 rfl rfl)
theorem dX1_leastByTrying_25 : decode cX1_leastByTrying 25 = .ok (.iconst 0, 1) := dk_3 (dk_at dksX1_leastByTrying_1 1 rfl rfl)
theorem dX1_leastByTrying_26 : decode cX1_leastByTrying 26 = .ok (.iconst (-1), 1) := dk_2 (dk_at dksX1_leastByTrying_1 2 rfl rfl)
theorem dX1_leastByTrying_27 : decode cX1_leastByTrying 27 = .ok (.invokevirtual 227, 3) := dk_182 0 227 (dk_at dksX1_leastByTrying_1 3 rfl rfl)
theorem dX1_leastByTrying_30 : decode cX1_leastByTrying 30 = .ok (.ireturn, 1) := dk_172 (dk_at dksX1_leastByTrying_1 6 rfl rfl)
abbrev cX1_tryOrders : ByteArray := prog_1_method_27_code
def yX1_tryOrders : MethodName := ⟨RX1, "tryOrders", "(LBinderyDesk$Job;II)I"⟩
def dkwX1_tryOrders_4 : List UInt8 := [21, 4, 172]
abbrev dktX1_tryOrders_4 : List UInt8 := dkwX1_tryOrders_4 ++ []
def dkwX1_tryOrders_3 : List UInt8 := [28, 4, 21, 5, 120, 128, 21, 5, 182, 0, 227, 96, 184, 0, 218, 54, 4, 132, 5, 1, 167, 255, 188]
abbrev dktX1_tryOrders_3 : List UInt8 := dkwX1_tryOrders_3 ++ dktX1_tryOrders_4
def dkwX1_tryOrders_2 : List UInt8 := [43, 21, 5, 182, 0, 193, 167, 0, 10, 43, 29, 21, 5, 184, 0, 223, 54, 6, 21, 4, 21, 6, 42, 43]
abbrev dktX1_tryOrders_2 : List UInt8 := dkwX1_tryOrders_2 ++ dktX1_tryOrders_3
def dkwX1_tryOrders_1 : List UInt8 := [21, 5, 43, 182, 0, 94, 162, 0, 65, 28, 21, 5, 122, 4, 126, 154, 0, 50, 29, 2, 160, 0, 13, 42]
abbrev dktX1_tryOrders_1 : List UInt8 := dkwX1_tryOrders_1 ++ dktX1_tryOrders_2
def dkwX1_tryOrders_0 : List UInt8 := [28, 4, 43, 182, 0, 94, 120, 4, 100, 160, 0, 7, 3, 167, 0, 5, 18, 217, 54, 4, 3, 54, 5]
abbrev dktX1_tryOrders_0 : List UInt8 := dkwX1_tryOrders_0 ++ dktX1_tryOrders_1
theorem dksX1_tryOrders_0 : cX1_tryOrders.data.toList.drop 0 = dktX1_tryOrders_0 := by decide +kernel
theorem dksX1_tryOrders_1 : cX1_tryOrders.data.toList.drop 23 = dktX1_tryOrders_1 := dk_seg dksX1_tryOrders_0 23 rfl rfl
theorem dksX1_tryOrders_2 : cX1_tryOrders.data.toList.drop 47 = dktX1_tryOrders_2 := dk_seg dksX1_tryOrders_1 24 rfl rfl
theorem dksX1_tryOrders_3 : cX1_tryOrders.data.toList.drop 71 = dktX1_tryOrders_3 := dk_seg dksX1_tryOrders_2 24 rfl rfl
theorem dksX1_tryOrders_4 : cX1_tryOrders.data.toList.drop 94 = dktX1_tryOrders_4 := dk_seg dksX1_tryOrders_3 23 rfl rfl
theorem dX1_tryOrders_0 : decode cX1_tryOrders 0 = .ok (.iload_n 2, 1) := dk_28 (dk_at dksX1_tryOrders_0 0 rfl rfl)
theorem dX1_tryOrders_1 : decode cX1_tryOrders 1 = .ok (.iconst 1, 1) := dk_4 (dk_at dksX1_tryOrders_0 1 rfl rfl)
theorem dX1_tryOrders_2 : decode cX1_tryOrders 2 = .ok (.aload_n 1, 1) := dk_43 (dk_at dksX1_tryOrders_0 2 rfl rfl)
theorem dX1_tryOrders_3 : decode cX1_tryOrders 3 = .ok (.invokevirtual 94, 3) := dk_182 0 94 (dk_at dksX1_tryOrders_0 3 rfl rfl)
theorem dX1_tryOrders_6 : decode cX1_tryOrders 6 = .ok (.ishl, 1) := dk_120 (dk_at dksX1_tryOrders_0 6 rfl rfl)
theorem dX1_tryOrders_7 : decode cX1_tryOrders 7 = .ok (.iconst 1, 1) := dk_4 (dk_at dksX1_tryOrders_0 7 rfl rfl)
theorem dX1_tryOrders_8 : decode cX1_tryOrders 8 = .ok (.isub, 1) := dk_100 (dk_at dksX1_tryOrders_0 8 rfl rfl)
theorem dX1_tryOrders_9 : decode cX1_tryOrders 9 = .ok (.if_icmp .ne 7, 3) := dk_160 0 7 (dk_at dksX1_tryOrders_0 9 rfl rfl)
theorem dX1_tryOrders_12 : decode cX1_tryOrders 12 = .ok (.iconst 0, 1) := dk_3 (dk_at dksX1_tryOrders_0 12 rfl rfl)
theorem dX1_tryOrders_13 : decode cX1_tryOrders 13 = .ok (.goto 5, 3) := dk_167 0 5 (dk_at dksX1_tryOrders_0 13 rfl rfl)
theorem dX1_tryOrders_16 : decode cX1_tryOrders 16 = .ok (.ldc 217, 2) := dk_18 217 (dk_at dksX1_tryOrders_0 16 rfl rfl)
theorem dX1_tryOrders_18 : decode cX1_tryOrders 18 = .ok (.istore 4, 2) := dk_54 4 (dk_at dksX1_tryOrders_0 18 rfl rfl)
theorem dX1_tryOrders_20 : decode cX1_tryOrders 20 = .ok (.iconst 0, 1) := dk_3 (dk_at dksX1_tryOrders_0 20 rfl rfl)
theorem dX1_tryOrders_21 : decode cX1_tryOrders 21 = .ok (.istore 5, 2) := dk_54 5 (dk_at dksX1_tryOrders_0 21 rfl rfl)
theorem dX1_tryOrders_23 : decode cX1_tryOrders 23 = .ok (.iload 5, 2) := dk_21 5 (dk_at dksX1_tryOrders_1 0 rfl rfl)
theorem dX1_tryOrders_25 : decode cX1_tryOrders 25 = .ok (.aload_n 1, 1) := dk_43 (dk_at dksX1_tryOrders_1 2 rfl rfl)
theorem dX1_tryOrders_26 : decode cX1_tryOrders 26 = .ok (.invokevirtual 94, 3) := dk_182 0 94 (dk_at dksX1_tryOrders_1 3 rfl rfl)
theorem dX1_tryOrders_29 : decode cX1_tryOrders 29 = .ok (.if_icmp .ge 65, 3) := dk_162 0 65 (dk_at dksX1_tryOrders_1 6 rfl rfl)
theorem dX1_tryOrders_32 : decode cX1_tryOrders 32 = .ok (.iload_n 2, 1) := dk_28 (dk_at dksX1_tryOrders_1 9 rfl rfl)
theorem dX1_tryOrders_33 : decode cX1_tryOrders 33 = .ok (.iload 5, 2) := dk_21 5 (dk_at dksX1_tryOrders_1 10 rfl rfl)
theorem dX1_tryOrders_35 : decode cX1_tryOrders 35 = .ok (.ishr, 1) := dk_122 (dk_at dksX1_tryOrders_1 12 rfl rfl)
theorem dX1_tryOrders_36 : decode cX1_tryOrders 36 = .ok (.iconst 1, 1) := dk_4 (dk_at dksX1_tryOrders_1 13 rfl rfl)
theorem dX1_tryOrders_37 : decode cX1_tryOrders 37 = .ok (.iand, 1) := dk_126 (dk_at dksX1_tryOrders_1 14 rfl rfl)
theorem dX1_tryOrders_38 : decode cX1_tryOrders 38 = .ok (.ifCond .ne 50, 3) := dk_154 0 50 (dk_at dksX1_tryOrders_1 15 rfl rfl)
theorem dX1_tryOrders_41 : decode cX1_tryOrders 41 = .ok (.iload_n 3, 1) := dk_29 (dk_at dksX1_tryOrders_1 18 rfl rfl)
theorem dX1_tryOrders_42 : decode cX1_tryOrders 42 = .ok (.iconst (-1), 1) := dk_2 (dk_at dksX1_tryOrders_1 19 rfl rfl)
theorem dX1_tryOrders_43 : decode cX1_tryOrders 43 = .ok (.if_icmp .ne 13, 3) := dk_160 0 13 (dk_at dksX1_tryOrders_1 20 rfl rfl)
theorem dX1_tryOrders_46 : decode cX1_tryOrders 46 = .ok (.aload_n 0, 1) := dk_42 (dk_at dksX1_tryOrders_1 23 rfl rfl)
theorem dX1_tryOrders_47 : decode cX1_tryOrders 47 = .ok (.aload_n 1, 1) := dk_43 (dk_at dksX1_tryOrders_2 0 rfl rfl)
theorem dX1_tryOrders_48 : decode cX1_tryOrders 48 = .ok (.iload 5, 2) := dk_21 5 (dk_at dksX1_tryOrders_2 1 rfl rfl)
theorem dX1_tryOrders_50 : decode cX1_tryOrders 50 = .ok (.invokevirtual 193, 3) := dk_182 0 193 (dk_at dksX1_tryOrders_2 3 rfl rfl)
theorem dX1_tryOrders_53 : decode cX1_tryOrders 53 = .ok (.goto 10, 3) := dk_167 0 10 (dk_at dksX1_tryOrders_2 6 rfl rfl)
theorem dX1_tryOrders_56 : decode cX1_tryOrders 56 = .ok (.aload_n 1, 1) := dk_43 (dk_at dksX1_tryOrders_2 9 rfl rfl)
theorem dX1_tryOrders_57 : decode cX1_tryOrders 57 = .ok (.iload_n 3, 1) := dk_29 (dk_at dksX1_tryOrders_2 10 rfl rfl)
theorem dX1_tryOrders_58 : decode cX1_tryOrders 58 = .ok (.iload 5, 2) := dk_21 5 (dk_at dksX1_tryOrders_2 11 rfl rfl)
theorem dX1_tryOrders_60 : decode cX1_tryOrders 60 = .ok (.invokestatic 223, 3) := dk_184 0 223 (dk_at dksX1_tryOrders_2 13 rfl rfl)
theorem dX1_tryOrders_63 : decode cX1_tryOrders 63 = .ok (.istore 6, 2) := dk_54 6 (dk_at dksX1_tryOrders_2 16 rfl rfl)
theorem dX1_tryOrders_65 : decode cX1_tryOrders 65 = .ok (.iload 4, 2) := dk_21 4 (dk_at dksX1_tryOrders_2 18 rfl rfl)
theorem dX1_tryOrders_67 : decode cX1_tryOrders 67 = .ok (.iload 6, 2) := dk_21 6 (dk_at dksX1_tryOrders_2 20 rfl rfl)
theorem dX1_tryOrders_69 : decode cX1_tryOrders 69 = .ok (.aload_n 0, 1) := dk_42 (dk_at dksX1_tryOrders_2 22 rfl rfl)
theorem dX1_tryOrders_70 : decode cX1_tryOrders 70 = .ok (.aload_n 1, 1) := dk_43 (dk_at dksX1_tryOrders_2 23 rfl rfl)
theorem dX1_tryOrders_71 : decode cX1_tryOrders 71 = .ok (.iload_n 2, 1) := dk_28 (dk_at dksX1_tryOrders_3 0 rfl rfl)
theorem dX1_tryOrders_72 : decode cX1_tryOrders 72 = .ok (.iconst 1, 1) := dk_4 (dk_at dksX1_tryOrders_3 1 rfl rfl)
theorem dX1_tryOrders_73 : decode cX1_tryOrders 73 = .ok (.iload 5, 2) := dk_21 5 (dk_at dksX1_tryOrders_3 2 rfl rfl)
theorem dX1_tryOrders_75 : decode cX1_tryOrders 75 = .ok (.ishl, 1) := dk_120 (dk_at dksX1_tryOrders_3 4 rfl rfl)
theorem dX1_tryOrders_76 : decode cX1_tryOrders 76 = .ok (.ior, 1) := dk_128 (dk_at dksX1_tryOrders_3 5 rfl rfl)
theorem dX1_tryOrders_77 : decode cX1_tryOrders 77 = .ok (.iload 5, 2) := dk_21 5 (dk_at dksX1_tryOrders_3 6 rfl rfl)
theorem dX1_tryOrders_79 : decode cX1_tryOrders 79 = .ok (.invokevirtual 227, 3) := dk_182 0 227 (dk_at dksX1_tryOrders_3 8 rfl rfl)
theorem dX1_tryOrders_82 : decode cX1_tryOrders 82 = .ok (.iadd, 1) := dk_96 (dk_at dksX1_tryOrders_3 11 rfl rfl)
theorem dX1_tryOrders_83 : decode cX1_tryOrders 83 = .ok (.invokestatic 218, 3) := dk_184 0 218 (dk_at dksX1_tryOrders_3 12 rfl rfl)
theorem dX1_tryOrders_86 : decode cX1_tryOrders 86 = .ok (.istore 4, 2) := dk_54 4 (dk_at dksX1_tryOrders_3 15 rfl rfl)
theorem dX1_tryOrders_88 : decode cX1_tryOrders 88 = .ok (.iinc 5 1, 3) := dk_132 5 1 (dk_at dksX1_tryOrders_3 17 rfl rfl)
theorem dX1_tryOrders_91 : decode cX1_tryOrders 91 = .ok (.goto (-68), 3) := dk_167 255 188 (dk_at dksX1_tryOrders_3 20 rfl rfl)
theorem dX1_tryOrders_94 : decode cX1_tryOrders 94 = .ok (.iload 4, 2) := dk_21 4 (dk_at dksX1_tryOrders_4 0 rfl rfl)
theorem dX1_tryOrders_96 : decode cX1_tryOrders 96 = .ok (.ireturn, 1) := dk_172 (dk_at dksX1_tryOrders_4 2 rfl rfl)
abbrev cX1_stock : ByteArray := prog_1_method_29_code
def yX1_stock : MethodName := ⟨RX1, "stock", "(II)I"⟩
def dkwX1_stock_0 : List UInt8 := [42, 27, 28, 182, 0, 155, 180, 0, 179, 28, 185, 0, 71, 2, 0, 192, 0, 182, 182, 0, 187, 172]
abbrev dktX1_stock_0 : List UInt8 := dkwX1_stock_0 ++ []
theorem dksX1_stock_0 : cX1_stock.data.toList.drop 0 = dktX1_stock_0 := by decide +kernel
theorem dX1_stock_0 : decode cX1_stock 0 = .ok (.aload_n 0, 1) := dk_42 (dk_at dksX1_stock_0 0 rfl rfl)
theorem dX1_stock_1 : decode cX1_stock 1 = .ok (.iload_n 1, 1) := dk_27 (dk_at dksX1_stock_0 1 rfl rfl)
theorem dX1_stock_2 : decode cX1_stock 2 = .ok (.iload_n 2, 1) := dk_28 (dk_at dksX1_stock_0 2 rfl rfl)
theorem dX1_stock_3 : decode cX1_stock 3 = .ok (.invokevirtual 155, 3) := dk_182 0 155 (dk_at dksX1_stock_0 3 rfl rfl)
theorem dX1_stock_6 : decode cX1_stock 6 = .ok (.getfield 179, 3) := dk_180 0 179 (dk_at dksX1_stock_0 6 rfl rfl)
theorem dX1_stock_9 : decode cX1_stock 9 = .ok (.iload_n 2, 1) := dk_28 (dk_at dksX1_stock_0 9 rfl rfl)
theorem dX1_stock_10 : decode cX1_stock 10 = .ok (.invokeinterface 71 2, 5) := by decide +kernel
theorem dX1_stock_15 : decode cX1_stock 15 = .ok (.checkcast 182, 3) := dk_192 0 182 (dk_at dksX1_stock_0 15 rfl rfl)
theorem dX1_stock_18 : decode cX1_stock 18 = .ok (.invokevirtual 187, 3) := dk_182 0 187 (dk_at dksX1_stock_0 18 rfl rfl)
theorem dX1_stock_21 : decode cX1_stock 21 = .ok (.ireturn, 1) := dk_172 (dk_at dksX1_stock_0 21 rfl rfl)
abbrev cX1_platesNeeded : ByteArray := prog_1_method_31_code
def yX1_platesNeeded : MethodName := ⟨RX1, "platesNeeded", "(I)I"⟩
def dkwX1_platesNeeded_3 : List UInt8 := [87, 45, 182, 0, 230, 172]
abbrev dktX1_platesNeeded_3 : List UInt8 := dkwX1_platesNeeded_3 ++ []
def dkwX1_platesNeeded_2 : List UInt8 := [182, 0, 203, 87, 132, 5, 1, 167, 255, 231, 132, 4, 1, 167, 255, 213, 45, 42, 180, 0, 43, 182, 0, 231]
abbrev dktX1_platesNeeded_2 : List UInt8 := dkwX1_platesNeeded_2 ++ dktX1_platesNeeded_3
def dkwX1_platesNeeded_1 : List UInt8 := [162, 0, 40, 3, 54, 5, 21, 5, 5, 162, 0, 25, 45, 44, 21, 4, 21, 5, 182, 0, 173, 184, 0, 197]
abbrev dktX1_platesNeeded_1 : List UInt8 := dkwX1_platesNeeded_1 ++ dktX1_platesNeeded_2
def dkwX1_platesNeeded_0 : List UInt8 := [42, 27, 182, 0, 91, 77, 187, 0, 40, 89, 183, 0, 42, 78, 3, 54, 4, 21, 4, 44, 182, 0, 94]
abbrev dktX1_platesNeeded_0 : List UInt8 := dkwX1_platesNeeded_0 ++ dktX1_platesNeeded_1
theorem dksX1_platesNeeded_0 : cX1_platesNeeded.data.toList.drop 0 = dktX1_platesNeeded_0 := by decide +kernel
theorem dksX1_platesNeeded_1 : cX1_platesNeeded.data.toList.drop 23 = dktX1_platesNeeded_1 := dk_seg dksX1_platesNeeded_0 23 rfl rfl
theorem dksX1_platesNeeded_2 : cX1_platesNeeded.data.toList.drop 47 = dktX1_platesNeeded_2 := dk_seg dksX1_platesNeeded_1 24 rfl rfl
theorem dksX1_platesNeeded_3 : cX1_platesNeeded.data.toList.drop 71 = dktX1_platesNeeded_3 := dk_seg dksX1_platesNeeded_2 24 rfl rfl
theorem dX1_platesNeeded_0 : decode cX1_platesNeeded 0 = .ok (.aload_n 0, 1) := dk_42 (dk_at dksX1_platesNeeded_0 0 rfl rfl)
theorem dX1_platesNeeded_1 : decode cX1_platesNeeded 1 = .ok (.iload_n 1, 1) := dk_27 (dk_at dksX1_platesNeeded_0 1 rfl rfl)
theorem dX1_platesNeeded_2 : decode cX1_platesNeeded 2 = .ok (.invokevirtual 91, 3) := dk_182 0 91 (dk_at dksX1_platesNeeded_0 2 rfl rfl)
theorem dX1_platesNeeded_5 : decode cX1_platesNeeded 5 = .ok (.astore_n 2, 1) := dk_77 (dk_at dksX1_platesNeeded_0 5 rfl rfl)
theorem dX1_platesNeeded_6 : decode cX1_platesNeeded 6 = .ok (.new 40, 3) := dk_187 0 40 (dk_at dksX1_platesNeeded_0 6 rfl rfl)
theorem dX1_platesNeeded_9 : decode cX1_platesNeeded 9 = .ok (.dup, 1) := dk_89 (dk_at dksX1_platesNeeded_0 9 rfl rfl)
theorem dX1_platesNeeded_10 : decode cX1_platesNeeded 10 = .ok (.invokespecial 42, 3) := dk_183 0 42 (dk_at dksX1_platesNeeded_0 10 rfl rfl)
theorem dX1_platesNeeded_13 : decode cX1_platesNeeded 13 = .ok (.astore_n 3, 1) := dk_78 (dk_at dksX1_platesNeeded_0 13 rfl rfl)
theorem dX1_platesNeeded_14 : decode cX1_platesNeeded 14 = .ok (.iconst 0, 1) := dk_3 (dk_at dksX1_platesNeeded_0 14 rfl rfl)
theorem dX1_platesNeeded_15 : decode cX1_platesNeeded 15 = .ok (.istore 4, 2) := dk_54 4 (dk_at dksX1_platesNeeded_0 15 rfl rfl)
theorem dX1_platesNeeded_17 : decode cX1_platesNeeded 17 = .ok (.iload 4, 2) := dk_21 4 (dk_at dksX1_platesNeeded_0 17 rfl rfl)
theorem dX1_platesNeeded_19 : decode cX1_platesNeeded 19 = .ok (.aload_n 2, 1) := dk_44 (dk_at dksX1_platesNeeded_0 19 rfl rfl)
theorem dX1_platesNeeded_20 : decode cX1_platesNeeded 20 = .ok (.invokevirtual 94, 3) := dk_182 0 94 (dk_at dksX1_platesNeeded_0 20 rfl rfl)
theorem dX1_platesNeeded_23 : decode cX1_platesNeeded 23 = .ok (.if_icmp .ge 40, 3) := dk_162 0 40 (dk_at dksX1_platesNeeded_1 0 rfl rfl)
theorem dX1_platesNeeded_26 : decode cX1_platesNeeded 26 = .ok (.iconst 0, 1) := dk_3 (dk_at dksX1_platesNeeded_1 3 rfl rfl)
theorem dX1_platesNeeded_27 : decode cX1_platesNeeded 27 = .ok (.istore 5, 2) := dk_54 5 (dk_at dksX1_platesNeeded_1 4 rfl rfl)
theorem dX1_platesNeeded_29 : decode cX1_platesNeeded 29 = .ok (.iload 5, 2) := dk_21 5 (dk_at dksX1_platesNeeded_1 6 rfl rfl)
theorem dX1_platesNeeded_31 : decode cX1_platesNeeded 31 = .ok (.iconst 2, 1) := dk_5 (dk_at dksX1_platesNeeded_1 8 rfl rfl)
theorem dX1_platesNeeded_32 : decode cX1_platesNeeded 32 = .ok (.if_icmp .ge 25, 3) := dk_162 0 25 (dk_at dksX1_platesNeeded_1 9 rfl rfl)
theorem dX1_platesNeeded_35 : decode cX1_platesNeeded 35 = .ok (.aload_n 3, 1) := dk_45 (dk_at dksX1_platesNeeded_1 12 rfl rfl)
theorem dX1_platesNeeded_36 : decode cX1_platesNeeded 36 = .ok (.aload_n 2, 1) := dk_44 (dk_at dksX1_platesNeeded_1 13 rfl rfl)
theorem dX1_platesNeeded_37 : decode cX1_platesNeeded 37 = .ok (.iload 4, 2) := dk_21 4 (dk_at dksX1_platesNeeded_1 14 rfl rfl)
theorem dX1_platesNeeded_39 : decode cX1_platesNeeded 39 = .ok (.iload 5, 2) := dk_21 5 (dk_at dksX1_platesNeeded_1 16 rfl rfl)
theorem dX1_platesNeeded_41 : decode cX1_platesNeeded 41 = .ok (.invokevirtual 173, 3) := dk_182 0 173 (dk_at dksX1_platesNeeded_1 18 rfl rfl)
theorem dX1_platesNeeded_44 : decode cX1_platesNeeded 44 = .ok (.invokestatic 197, 3) := dk_184 0 197 (dk_at dksX1_platesNeeded_1 21 rfl rfl)
theorem dX1_platesNeeded_47 : decode cX1_platesNeeded 47 = .ok (.invokevirtual 203, 3) := dk_182 0 203 (dk_at dksX1_platesNeeded_2 0 rfl rfl)
theorem dX1_platesNeeded_50 : decode cX1_platesNeeded 50 = .ok (.pop, 1) := dk_87 (dk_at dksX1_platesNeeded_2 3 rfl rfl)
theorem dX1_platesNeeded_51 : decode cX1_platesNeeded 51 = .ok (.iinc 5 1, 3) := dk_132 5 1 (dk_at dksX1_platesNeeded_2 4 rfl rfl)
theorem dX1_platesNeeded_54 : decode cX1_platesNeeded 54 = .ok (.goto (-25), 3) := dk_167 255 231 (dk_at dksX1_platesNeeded_2 7 rfl rfl)
theorem dX1_platesNeeded_57 : decode cX1_platesNeeded 57 = .ok (.iinc 4 1, 3) := dk_132 4 1 (dk_at dksX1_platesNeeded_2 10 rfl rfl)
theorem dX1_platesNeeded_60 : decode cX1_platesNeeded 60 = .ok (.goto (-43), 3) := dk_167 255 213 (dk_at dksX1_platesNeeded_2 13 rfl rfl)
theorem dX1_platesNeeded_63 : decode cX1_platesNeeded 63 = .ok (.aload_n 3, 1) := dk_45 (dk_at dksX1_platesNeeded_2 16 rfl rfl)
theorem dX1_platesNeeded_64 : decode cX1_platesNeeded 64 = .ok (.aload_n 0, 1) := dk_42 (dk_at dksX1_platesNeeded_2 17 rfl rfl)
theorem dX1_platesNeeded_65 : decode cX1_platesNeeded 65 = .ok (.getfield 43, 3) := dk_180 0 43 (dk_at dksX1_platesNeeded_2 18 rfl rfl)
theorem dX1_platesNeeded_68 : decode cX1_platesNeeded 68 = .ok (.invokevirtual 231, 3) := dk_182 0 231 (dk_at dksX1_platesNeeded_2 21 rfl rfl)
theorem dX1_platesNeeded_71 : decode cX1_platesNeeded 71 = .ok (.pop, 1) := dk_87 (dk_at dksX1_platesNeeded_3 0 rfl rfl)
theorem dX1_platesNeeded_72 : decode cX1_platesNeeded 72 = .ok (.aload_n 3, 1) := dk_45 (dk_at dksX1_platesNeeded_3 1 rfl rfl)
theorem dX1_platesNeeded_73 : decode cX1_platesNeeded 73 = .ok (.invokevirtual 230, 3) := dk_182 0 230 (dk_at dksX1_platesNeeded_3 2 rfl rfl)
theorem dX1_platesNeeded_76 : decode cX1_platesNeeded 76 = .ok (.ireturn, 1) := dk_172 (dk_at dksX1_platesNeeded_3 5 rfl rfl)
abbrev cX1_bind : ByteArray := prog_1_method_32_code
def yX1_bind : MethodName := ⟨RX1, "bind", "(II)I"⟩
def dkwX1_bind_6 : List UInt8 := [185, 0, 61, 1, 0, 4, 100, 172]
abbrev dktX1_bind_6 : List UInt8 := dkwX1_bind_6 ++ []
def dkwX1_bind_5 : List UInt8 := [185, 0, 103, 2, 0, 87, 42, 180, 0, 34, 25, 4, 185, 0, 103, 2, 0, 87, 42, 180, 0, 37]
abbrev dktX1_bind_5 : List UInt8 := dkwX1_bind_5 ++ dktX1_bind_6
def dkwX1_bind_4 : List UInt8 := [187, 0, 242, 89, 28, 45, 180, 0, 152, 183, 0, 244, 58, 4, 42, 180, 0, 37, 25, 4]
abbrev dktX1_bind_4 : List UInt8 := dkwX1_bind_4 ++ dktX1_bind_5
def dkwX1_bind_3 : List UInt8 := [180, 0, 179, 21, 4, 185, 0, 71, 2, 0, 192, 0, 182, 28, 182, 0, 239, 132, 4, 1, 167, 255, 226]
abbrev dktX1_bind_3 : List UInt8 := dkwX1_bind_3 ++ dktX1_bind_4
def dkwX1_bind_2 : List UInt8 := [154, 0, 7, 4, 167, 0, 4, 3, 184, 0, 190, 3, 54, 4, 21, 4, 45, 182, 0, 94, 162, 0, 27, 45]
abbrev dktX1_bind_2 : List UInt8 := dkwX1_bind_2 ++ dktX1_bind_3
def dkwX1_bind_1 : List UInt8 := [185, 0, 61, 1, 0, 16, 100, 162, 0, 7, 4, 167, 0, 4, 3, 184, 0, 87, 45, 28, 182, 0, 235]
abbrev dktX1_bind_1 : List UInt8 := dkwX1_bind_1 ++ dktX1_bind_2
def dkwX1_bind_0 : List UInt8 := [42, 27, 182, 0, 79, 78, 28, 184, 0, 176, 45, 182, 0, 83, 153, 0, 21, 42, 180, 0, 37]
abbrev dktX1_bind_0 : List UInt8 := dkwX1_bind_0 ++ dktX1_bind_1
theorem dksX1_bind_0 : cX1_bind.data.toList.drop 0 = dktX1_bind_0 := by decide +kernel
theorem dksX1_bind_1 : cX1_bind.data.toList.drop 21 = dktX1_bind_1 := dk_seg dksX1_bind_0 21 rfl rfl
theorem dksX1_bind_2 : cX1_bind.data.toList.drop 44 = dktX1_bind_2 := dk_seg dksX1_bind_1 23 rfl rfl
theorem dksX1_bind_3 : cX1_bind.data.toList.drop 68 = dktX1_bind_3 := dk_seg dksX1_bind_2 24 rfl rfl
theorem dksX1_bind_4 : cX1_bind.data.toList.drop 91 = dktX1_bind_4 := dk_seg dksX1_bind_3 23 rfl rfl
theorem dksX1_bind_5 : cX1_bind.data.toList.drop 111 = dktX1_bind_5 := dk_seg dksX1_bind_4 20 rfl rfl
theorem dksX1_bind_6 : cX1_bind.data.toList.drop 133 = dktX1_bind_6 := dk_seg dksX1_bind_5 22 rfl rfl
theorem dX1_bind_0 : decode cX1_bind 0 = .ok (.aload_n 0, 1) := dk_42 (dk_at dksX1_bind_0 0 rfl rfl)
theorem dX1_bind_1 : decode cX1_bind 1 = .ok (.iload_n 1, 1) := dk_27 (dk_at dksX1_bind_0 1 rfl rfl)
theorem dX1_bind_2 : decode cX1_bind 2 = .ok (.invokevirtual 79, 3) := dk_182 0 79 (dk_at dksX1_bind_0 2 rfl rfl)
theorem dX1_bind_5 : decode cX1_bind 5 = .ok (.astore_n 3, 1) := dk_78 (dk_at dksX1_bind_0 5 rfl rfl)
theorem dX1_bind_6 : decode cX1_bind 6 = .ok (.iload_n 2, 1) := dk_28 (dk_at dksX1_bind_0 6 rfl rfl)
theorem dX1_bind_7 : decode cX1_bind 7 = .ok (.invokestatic 176, 3) := dk_184 0 176 (dk_at dksX1_bind_0 7 rfl rfl)
theorem dX1_bind_10 : decode cX1_bind 10 = .ok (.aload_n 3, 1) := dk_45 (dk_at dksX1_bind_0 10 rfl rfl)
theorem dX1_bind_11 : decode cX1_bind 11 = .ok (.invokevirtual 83, 3) := dk_182 0 83 (dk_at dksX1_bind_0 11 rfl rfl)
theorem dX1_bind_14 : decode cX1_bind 14 = .ok (.ifCond .eq 21, 3) := dk_153 0 21 (dk_at dksX1_bind_0 14 rfl rfl)
theorem dX1_bind_17 : decode cX1_bind 17 = .ok (.aload_n 0, 1) := dk_42 (dk_at dksX1_bind_0 17 rfl rfl)
theorem dX1_bind_18 : decode cX1_bind 18 = .ok (.getfield 37, 3) := dk_180 0 37 (dk_at dksX1_bind_0 18 rfl rfl)
theorem dX1_bind_21 : decode cX1_bind 21 = .ok (.invokeinterface 61 1, 5) := by decide +kernel
theorem dX1_bind_26 : decode cX1_bind 26 = .ok (.bipush 100, 2) := dk_16 100 (dk_at dksX1_bind_1 5 rfl rfl)
theorem dX1_bind_28 : decode cX1_bind 28 = .ok (.if_icmp .ge 7, 3) := dk_162 0 7 (dk_at dksX1_bind_1 7 rfl rfl)
theorem dX1_bind_31 : decode cX1_bind 31 = .ok (.iconst 1, 1) := dk_4 (dk_at dksX1_bind_1 10 rfl rfl)
theorem dX1_bind_32 : decode cX1_bind 32 = .ok (.goto 4, 3) := dk_167 0 4 (dk_at dksX1_bind_1 11 rfl rfl)
theorem dX1_bind_35 : decode cX1_bind 35 = .ok (.iconst 0, 1) := dk_3 (dk_at dksX1_bind_1 14 rfl rfl)
theorem dX1_bind_36 : decode cX1_bind 36 = .ok (.invokestatic 87, 3) := dk_184 0 87 (dk_at dksX1_bind_1 15 rfl rfl)
theorem dX1_bind_39 : decode cX1_bind 39 = .ok (.aload_n 3, 1) := dk_45 (dk_at dksX1_bind_1 18 rfl rfl)
theorem dX1_bind_40 : decode cX1_bind 40 = .ok (.iload_n 2, 1) := dk_28 (dk_at dksX1_bind_1 19 rfl rfl)
theorem dX1_bind_41 : decode cX1_bind 41 = .ok (.invokevirtual 235, 3) := dk_182 0 235 (dk_at dksX1_bind_1 20 rfl rfl)
theorem dX1_bind_44 : decode cX1_bind 44 = .ok (.ifCond .ne 7, 3) := dk_154 0 7 (dk_at dksX1_bind_2 0 rfl rfl)
theorem dX1_bind_47 : decode cX1_bind 47 = .ok (.iconst 1, 1) := dk_4 (dk_at dksX1_bind_2 3 rfl rfl)
theorem dX1_bind_48 : decode cX1_bind 48 = .ok (.goto 4, 3) := dk_167 0 4 (dk_at dksX1_bind_2 4 rfl rfl)
theorem dX1_bind_51 : decode cX1_bind 51 = .ok (.iconst 0, 1) := dk_3 (dk_at dksX1_bind_2 7 rfl rfl)
theorem dX1_bind_52 : decode cX1_bind 52 = .ok (.invokestatic 190, 3) := dk_184 0 190 (dk_at dksX1_bind_2 8 rfl rfl)
theorem dX1_bind_55 : decode cX1_bind 55 = .ok (.iconst 0, 1) := dk_3 (dk_at dksX1_bind_2 11 rfl rfl)
theorem dX1_bind_56 : decode cX1_bind 56 = .ok (.istore 4, 2) := dk_54 4 (dk_at dksX1_bind_2 12 rfl rfl)
theorem dX1_bind_58 : decode cX1_bind 58 = .ok (.iload 4, 2) := dk_21 4 (dk_at dksX1_bind_2 14 rfl rfl)
theorem dX1_bind_60 : decode cX1_bind 60 = .ok (.aload_n 3, 1) := dk_45 (dk_at dksX1_bind_2 16 rfl rfl)
theorem dX1_bind_61 : decode cX1_bind 61 = .ok (.invokevirtual 94, 3) := dk_182 0 94 (dk_at dksX1_bind_2 17 rfl rfl)
theorem dX1_bind_64 : decode cX1_bind 64 = .ok (.if_icmp .ge 27, 3) := dk_162 0 27 (dk_at dksX1_bind_2 20 rfl rfl)
theorem dX1_bind_67 : decode cX1_bind 67 = .ok (.aload_n 3, 1) := dk_45 (dk_at dksX1_bind_2 23 rfl rfl)
theorem dX1_bind_68 : decode cX1_bind 68 = .ok (.getfield 179, 3) := dk_180 0 179 (dk_at dksX1_bind_3 0 rfl rfl)
theorem dX1_bind_71 : decode cX1_bind 71 = .ok (.iload 4, 2) := dk_21 4 (dk_at dksX1_bind_3 3 rfl rfl)
theorem dX1_bind_73 : decode cX1_bind 73 = .ok (.invokeinterface 71 2, 5) := by decide +kernel
theorem dX1_bind_78 : decode cX1_bind 78 = .ok (.checkcast 182, 3) := dk_192 0 182 (dk_at dksX1_bind_3 10 rfl rfl)
theorem dX1_bind_81 : decode cX1_bind 81 = .ok (.iload_n 2, 1) := dk_28 (dk_at dksX1_bind_3 13 rfl rfl)
theorem dX1_bind_82 : decode cX1_bind 82 = .ok (.invokevirtual 239, 3) := dk_182 0 239 (dk_at dksX1_bind_3 14 rfl rfl)
theorem dX1_bind_85 : decode cX1_bind 85 = .ok (.iinc 4 1, 3) := dk_132 4 1 (dk_at dksX1_bind_3 17 rfl rfl)
theorem dX1_bind_88 : decode cX1_bind 88 = .ok (.goto (-30), 3) := dk_167 255 226 (dk_at dksX1_bind_3 20 rfl rfl)
theorem dX1_bind_91 : decode cX1_bind 91 = .ok (.new 242, 3) := dk_187 0 242 (dk_at dksX1_bind_4 0 rfl rfl)
theorem dX1_bind_94 : decode cX1_bind 94 = .ok (.dup, 1) := dk_89 (dk_at dksX1_bind_4 3 rfl rfl)
theorem dX1_bind_95 : decode cX1_bind 95 = .ok (.iload_n 2, 1) := dk_28 (dk_at dksX1_bind_4 4 rfl rfl)
theorem dX1_bind_96 : decode cX1_bind 96 = .ok (.aload_n 3, 1) := dk_45 (dk_at dksX1_bind_4 5 rfl rfl)
theorem dX1_bind_97 : decode cX1_bind 97 = .ok (.getfield 152, 3) := dk_180 0 152 (dk_at dksX1_bind_4 6 rfl rfl)
theorem dX1_bind_100 : decode cX1_bind 100 = .ok (.invokespecial 244, 3) := dk_183 0 244 (dk_at dksX1_bind_4 9 rfl rfl)
theorem dX1_bind_103 : decode cX1_bind 103 = .ok (.astore 4, 2) := dk_58 4 (dk_at dksX1_bind_4 12 rfl rfl)
theorem dX1_bind_105 : decode cX1_bind 105 = .ok (.aload_n 0, 1) := dk_42 (dk_at dksX1_bind_4 14 rfl rfl)
theorem dX1_bind_106 : decode cX1_bind 106 = .ok (.getfield 37, 3) := dk_180 0 37 (dk_at dksX1_bind_4 15 rfl rfl)
theorem dX1_bind_109 : decode cX1_bind 109 = .ok (.aload 4, 2) := dk_25 4 (dk_at dksX1_bind_4 18 rfl rfl)
theorem dX1_bind_111 : decode cX1_bind 111 = .ok (.invokeinterface 103 2, 5) := by decide +kernel
theorem dX1_bind_116 : decode cX1_bind 116 = .ok (.pop, 1) := dk_87 (dk_at dksX1_bind_5 5 rfl rfl)
theorem dX1_bind_117 : decode cX1_bind 117 = .ok (.aload_n 0, 1) := dk_42 (dk_at dksX1_bind_5 6 rfl rfl)
theorem dX1_bind_118 : decode cX1_bind 118 = .ok (.getfield 34, 3) := dk_180 0 34 (dk_at dksX1_bind_5 7 rfl rfl)
theorem dX1_bind_121 : decode cX1_bind 121 = .ok (.aload 4, 2) := dk_25 4 (dk_at dksX1_bind_5 10 rfl rfl)
theorem dX1_bind_123 : decode cX1_bind 123 = .ok (.invokeinterface 103 2, 5) := by decide +kernel
theorem dX1_bind_128 : decode cX1_bind 128 = .ok (.pop, 1) := dk_87 (dk_at dksX1_bind_5 17 rfl rfl)
theorem dX1_bind_129 : decode cX1_bind 129 = .ok (.aload_n 0, 1) := dk_42 (dk_at dksX1_bind_5 18 rfl rfl)
theorem dX1_bind_130 : decode cX1_bind 130 = .ok (.getfield 37, 3) := dk_180 0 37 (dk_at dksX1_bind_5 19 rfl rfl)
theorem dX1_bind_133 : decode cX1_bind 133 = .ok (.invokeinterface 61 1, 5) := by decide +kernel
theorem dX1_bind_138 : decode cX1_bind 138 = .ok (.iconst 1, 1) := dk_4 (dk_at dksX1_bind_6 5 rfl rfl)
theorem dX1_bind_139 : decode cX1_bind 139 = .ok (.isub, 1) := dk_100 (dk_at dksX1_bind_6 6 rfl rfl)
theorem dX1_bind_140 : decode cX1_bind 140 = .ok (.ireturn, 1) := dk_172 (dk_at dksX1_bind_6 7 rfl rfl)
abbrev cX1_lacks : ByteArray := prog_1_method_33_code
def yX1_lacks : MethodName := ⟨RX1, "lacks", "(II)I"⟩
def dkwX1_lacks_0 : List UInt8 := [42, 27, 182, 0, 79, 78, 28, 184, 0, 176, 45, 182, 0, 83, 184, 0, 87, 45, 28, 182, 0, 235, 172]
abbrev dktX1_lacks_0 : List UInt8 := dkwX1_lacks_0 ++ []
theorem dksX1_lacks_0 : cX1_lacks.data.toList.drop 0 = dktX1_lacks_0 := by decide +kernel
theorem dX1_lacks_0 : decode cX1_lacks 0 = .ok (.aload_n 0, 1) := dk_42 (dk_at dksX1_lacks_0 0 rfl rfl)
theorem dX1_lacks_1 : decode cX1_lacks 1 = .ok (.iload_n 1, 1) := dk_27 (dk_at dksX1_lacks_0 1 rfl rfl)
theorem dX1_lacks_2 : decode cX1_lacks 2 = .ok (.invokevirtual 79, 3) := dk_182 0 79 (dk_at dksX1_lacks_0 2 rfl rfl)
theorem dX1_lacks_5 : decode cX1_lacks 5 = .ok (.astore_n 3, 1) := dk_78 (dk_at dksX1_lacks_0 5 rfl rfl)
theorem dX1_lacks_6 : decode cX1_lacks 6 = .ok (.iload_n 2, 1) := dk_28 (dk_at dksX1_lacks_0 6 rfl rfl)
theorem dX1_lacks_7 : decode cX1_lacks 7 = .ok (.invokestatic 176, 3) := dk_184 0 176 (dk_at dksX1_lacks_0 7 rfl rfl)
theorem dX1_lacks_10 : decode cX1_lacks 10 = .ok (.aload_n 3, 1) := dk_45 (dk_at dksX1_lacks_0 10 rfl rfl)
theorem dX1_lacks_11 : decode cX1_lacks 11 = .ok (.invokevirtual 83, 3) := dk_182 0 83 (dk_at dksX1_lacks_0 11 rfl rfl)
theorem dX1_lacks_14 : decode cX1_lacks 14 = .ok (.invokestatic 87, 3) := dk_184 0 87 (dk_at dksX1_lacks_0 14 rfl rfl)
theorem dX1_lacks_17 : decode cX1_lacks 17 = .ok (.aload_n 3, 1) := dk_45 (dk_at dksX1_lacks_0 17 rfl rfl)
theorem dX1_lacks_18 : decode cX1_lacks 18 = .ok (.iload_n 2, 1) := dk_28 (dk_at dksX1_lacks_0 18 rfl rfl)
theorem dX1_lacks_19 : decode cX1_lacks 19 = .ok (.invokevirtual 235, 3) := dk_182 0 235 (dk_at dksX1_lacks_0 19 rfl rfl)
theorem dX1_lacks_22 : decode cX1_lacks 22 = .ok (.ireturn, 1) := dk_172 (dk_at dksX1_lacks_0 22 rfl rfl)
abbrev cX1_copies : ByteArray := prog_1_method_37_code
def yX1_copies : MethodName := ⟨RX1, "copies", "(I)I"⟩
def dkwX1_copies_0 : List UInt8 := [42, 27, 182, 0, 247, 180, 0, 254, 172]
abbrev dktX1_copies_0 : List UInt8 := dkwX1_copies_0 ++ []
theorem dksX1_copies_0 : cX1_copies.data.toList.drop 0 = dktX1_copies_0 := by decide +kernel
theorem dX1_copies_0 : decode cX1_copies 0 = .ok (.aload_n 0, 1) := dk_42 (dk_at dksX1_copies_0 0 rfl rfl)
theorem dX1_copies_1 : decode cX1_copies 1 = .ok (.iload_n 1, 1) := dk_27 (dk_at dksX1_copies_0 1 rfl rfl)
theorem dX1_copies_2 : decode cX1_copies 2 = .ok (.invokevirtual 247, 3) := dk_182 0 247 (dk_at dksX1_copies_0 2 rfl rfl)
theorem dX1_copies_5 : decode cX1_copies 5 = .ok (.getfield 254, 3) := dk_180 0 254 (dk_at dksX1_copies_0 5 rfl rfl)
theorem dX1_copies_8 : decode cX1_copies 8 = .ok (.ireturn, 1) := dk_172 (dk_at dksX1_copies_0 8 rfl rfl)
abbrev cX1_lotNumbered : ByteArray := prog_1_method_35_code
def yX1_lotNumbered : MethodName := ⟨RX1, "lotNumbered", "(I)LBinderyDesk$Lot;"⟩
def dkwX1_lotNumbered_1 : List UInt8 := [192, 0, 242, 176]
abbrev dktX1_lotNumbered_1 : List UInt8 := dkwX1_lotNumbered_1 ++ []
def dkwX1_lotNumbered_0 : List UInt8 := [27, 42, 180, 0, 37, 185, 0, 61, 1, 0, 184, 0, 67, 42, 180, 0, 37, 27, 185, 0, 71, 2, 0]
abbrev dktX1_lotNumbered_0 : List UInt8 := dkwX1_lotNumbered_0 ++ dktX1_lotNumbered_1
theorem dksX1_lotNumbered_0 : cX1_lotNumbered.data.toList.drop 0 = dktX1_lotNumbered_0 := by decide +kernel
theorem dksX1_lotNumbered_1 : cX1_lotNumbered.data.toList.drop 23 = dktX1_lotNumbered_1 := dk_seg dksX1_lotNumbered_0 23 rfl rfl
theorem dX1_lotNumbered_0 : decode cX1_lotNumbered 0 = .ok (.iload_n 1, 1) := dk_27 (dk_at dksX1_lotNumbered_0 0 rfl rfl)
theorem dX1_lotNumbered_1 : decode cX1_lotNumbered 1 = .ok (.aload_n 0, 1) := dk_42 (dk_at dksX1_lotNumbered_0 1 rfl rfl)
theorem dX1_lotNumbered_2 : decode cX1_lotNumbered 2 = .ok (.getfield 37, 3) := dk_180 0 37 (dk_at dksX1_lotNumbered_0 2 rfl rfl)
theorem dX1_lotNumbered_5 : decode cX1_lotNumbered 5 = .ok (.invokeinterface 61 1, 5) := by decide +kernel
theorem dX1_lotNumbered_10 : decode cX1_lotNumbered 10 = .ok (.invokestatic 67, 3) := dk_184 0 67 (dk_at dksX1_lotNumbered_0 10 rfl rfl)
theorem dX1_lotNumbered_13 : decode cX1_lotNumbered 13 = .ok (.aload_n 0, 1) := dk_42 (dk_at dksX1_lotNumbered_0 13 rfl rfl)
theorem dX1_lotNumbered_14 : decode cX1_lotNumbered 14 = .ok (.getfield 37, 3) := dk_180 0 37 (dk_at dksX1_lotNumbered_0 14 rfl rfl)
theorem dX1_lotNumbered_17 : decode cX1_lotNumbered 17 = .ok (.iload_n 1, 1) := dk_27 (dk_at dksX1_lotNumbered_0 17 rfl rfl)
theorem dX1_lotNumbered_18 : decode cX1_lotNumbered 18 = .ok (.invokeinterface 71 2, 5) := by decide +kernel
theorem dX1_lotNumbered_23 : decode cX1_lotNumbered 23 = .ok (.checkcast 242, 3) := dk_192 0 242 (dk_at dksX1_lotNumbered_1 0 rfl rfl)
theorem dX1_lotNumbered_26 : decode cX1_lotNumbered 26 = .ok (.areturn, 1) := dk_176 (dk_at dksX1_lotNumbered_1 3 rfl rfl)
abbrev cX1_stateIn : ByteArray := prog_1_method_38_code
def yX1_stateIn : MethodName := ⟨RX1, "stateIn", "(II)I"⟩
def dkwX1_stateIn_0 : List UInt8 := [42, 27, 28, 182, 1, 1, 180, 0, 251, 28, 4, 100, 46, 172]
abbrev dktX1_stateIn_0 : List UInt8 := dkwX1_stateIn_0 ++ []
theorem dksX1_stateIn_0 : cX1_stateIn.data.toList.drop 0 = dktX1_stateIn_0 := by decide +kernel
theorem dX1_stateIn_0 : decode cX1_stateIn 0 = .ok (.aload_n 0, 1) := dk_42 (dk_at dksX1_stateIn_0 0 rfl rfl)
theorem dX1_stateIn_1 : decode cX1_stateIn 1 = .ok (.iload_n 1, 1) := dk_27 (dk_at dksX1_stateIn_0 1 rfl rfl)
theorem dX1_stateIn_2 : decode cX1_stateIn 2 = .ok (.iload_n 2, 1) := dk_28 (dk_at dksX1_stateIn_0 2 rfl rfl)
theorem dX1_stateIn_3 : decode cX1_stateIn 3 = .ok (.invokevirtual 257, 3) := dk_182 1 1 (dk_at dksX1_stateIn_0 3 rfl rfl)
theorem dX1_stateIn_6 : decode cX1_stateIn 6 = .ok (.getfield 251, 3) := dk_180 0 251 (dk_at dksX1_stateIn_0 6 rfl rfl)
theorem dX1_stateIn_9 : decode cX1_stateIn 9 = .ok (.iload_n 2, 1) := dk_28 (dk_at dksX1_stateIn_0 9 rfl rfl)
theorem dX1_stateIn_10 : decode cX1_stateIn 10 = .ok (.iconst 1, 1) := dk_4 (dk_at dksX1_stateIn_0 10 rfl rfl)
theorem dX1_stateIn_11 : decode cX1_stateIn 11 = .ok (.isub, 1) := dk_100 (dk_at dksX1_stateIn_0 11 rfl rfl)
theorem dX1_stateIn_12 : decode cX1_stateIn 12 = .ok (.iaload, 1) := dk_46 (dk_at dksX1_stateIn_0 12 rfl rfl)
theorem dX1_stateIn_13 : decode cX1_stateIn 13 = .ok (.ireturn, 1) := dk_172 (dk_at dksX1_stateIn_0 13 rfl rfl)
abbrev cX1_lotWithPage : ByteArray := prog_1_method_36_code
def yX1_lotWithPage : MethodName := ⟨RX1, "lotWithPage", "(II)LBinderyDesk$Lot;"⟩
def dkwX1_lotWithPage_1 : List UInt8 := [3, 184, 0, 97, 45, 176]
abbrev dktX1_lotWithPage_1 : List UInt8 := dkwX1_lotWithPage_1 ++ []
def dkwX1_lotWithPage_0 : List UInt8 := [42, 27, 182, 0, 247, 78, 28, 4, 161, 0, 16, 28, 45, 180, 0, 251, 190, 163, 0, 7, 4, 167, 0, 4]
abbrev dktX1_lotWithPage_0 : List UInt8 := dkwX1_lotWithPage_0 ++ dktX1_lotWithPage_1
theorem dksX1_lotWithPage_0 : cX1_lotWithPage.data.toList.drop 0 = dktX1_lotWithPage_0 := by decide +kernel
theorem dksX1_lotWithPage_1 : cX1_lotWithPage.data.toList.drop 24 = dktX1_lotWithPage_1 := dk_seg dksX1_lotWithPage_0 24 rfl rfl
theorem dX1_lotWithPage_0 : decode cX1_lotWithPage 0 = .ok (.aload_n 0, 1) := dk_42 (dk_at dksX1_lotWithPage_0 0 rfl rfl)
theorem dX1_lotWithPage_1 : decode cX1_lotWithPage 1 = .ok (.iload_n 1, 1) := dk_27 (dk_at dksX1_lotWithPage_0 1 rfl rfl)
theorem dX1_lotWithPage_2 : decode cX1_lotWithPage 2 = .ok (.invokevirtual 247, 3) := dk_182 0 247 (dk_at dksX1_lotWithPage_0 2 rfl rfl)
theorem dX1_lotWithPage_5 : decode cX1_lotWithPage 5 = .ok (.astore_n 3, 1) := dk_78 (dk_at dksX1_lotWithPage_0 5 rfl rfl)
theorem dX1_lotWithPage_6 : decode cX1_lotWithPage 6 = .ok (.iload_n 2, 1) := dk_28 (dk_at dksX1_lotWithPage_0 6 rfl rfl)
theorem dX1_lotWithPage_7 : decode cX1_lotWithPage 7 = .ok (.iconst 1, 1) := dk_4 (dk_at dksX1_lotWithPage_0 7 rfl rfl)
theorem dX1_lotWithPage_8 : decode cX1_lotWithPage 8 = .ok (.if_icmp .lt 16, 3) := dk_161 0 16 (dk_at dksX1_lotWithPage_0 8 rfl rfl)
theorem dX1_lotWithPage_11 : decode cX1_lotWithPage 11 = .ok (.iload_n 2, 1) := dk_28 (dk_at dksX1_lotWithPage_0 11 rfl rfl)
theorem dX1_lotWithPage_12 : decode cX1_lotWithPage 12 = .ok (.aload_n 3, 1) := dk_45 (dk_at dksX1_lotWithPage_0 12 rfl rfl)
theorem dX1_lotWithPage_13 : decode cX1_lotWithPage 13 = .ok (.getfield 251, 3) := dk_180 0 251 (dk_at dksX1_lotWithPage_0 13 rfl rfl)
theorem dX1_lotWithPage_16 : decode cX1_lotWithPage 16 = .ok (.arraylength, 1) := dk_190 (dk_at dksX1_lotWithPage_0 16 rfl rfl)
theorem dX1_lotWithPage_17 : decode cX1_lotWithPage 17 = .ok (.if_icmp .gt 7, 3) := dk_163 0 7 (dk_at dksX1_lotWithPage_0 17 rfl rfl)
theorem dX1_lotWithPage_20 : decode cX1_lotWithPage 20 = .ok (.iconst 1, 1) := dk_4 (dk_at dksX1_lotWithPage_0 20 rfl rfl)
theorem dX1_lotWithPage_21 : decode cX1_lotWithPage 21 = .ok (.goto 4, 3) := dk_167 0 4 (dk_at dksX1_lotWithPage_0 21 rfl rfl)
theorem dX1_lotWithPage_24 : decode cX1_lotWithPage 24 = .ok (.iconst 0, 1) := dk_3 (dk_at dksX1_lotWithPage_1 0 rfl rfl)
theorem dX1_lotWithPage_25 : decode cX1_lotWithPage 25 = .ok (.invokestatic 97, 3) := dk_184 0 97 (dk_at dksX1_lotWithPage_1 1 rfl rfl)
theorem dX1_lotWithPage_28 : decode cX1_lotWithPage 28 = .ok (.aload_n 3, 1) := dk_45 (dk_at dksX1_lotWithPage_1 4 rfl rfl)
theorem dX1_lotWithPage_29 : decode cX1_lotWithPage 29 = .ok (.areturn, 1) := dk_176 (dk_at dksX1_lotWithPage_1 5 rfl rfl)
abbrev cX1_stateByReplay : ByteArray := prog_1_method_39_code
def yX1_stateByReplay : MethodName := ⟨RX1, "stateByReplay", "(II)I"⟩
def dkwX1_stateByReplay_4 : List UInt8 := [166, 0, 7, 4, 167, 0, 4, 3, 96, 54, 5, 167, 255, 190, 21, 5, 172]
abbrev dktX1_stateByReplay_4 : List UInt8 := dkwX1_stateByReplay_4 ++ []
def dkwX1_stateByReplay_3 : List UInt8 := [25, 7, 193, 0, 119, 153, 0, 24, 25, 7, 192, 0, 119, 58, 8, 25, 8, 180, 1, 8, 25, 4]
abbrev dktX1_stateByReplay_3 : List UInt8 := dkwX1_stateByReplay_3 ++ dktX1_stateByReplay_4
def dkwX1_stateByReplay_2 : List UInt8 := [25, 6, 185, 0, 133, 1, 0, 192, 1, 6, 58, 7, 25, 7, 45, 166, 0, 6, 167, 0, 41, 21, 5]
abbrev dktX1_stateByReplay_2 : List UInt8 := dkwX1_stateByReplay_2 ++ dktX1_stateByReplay_3
def dkwX1_stateByReplay_1 : List UInt8 := [3, 54, 5, 42, 180, 0, 34, 185, 0, 124, 1, 0, 58, 6, 25, 6, 185, 0, 128, 1, 0, 153, 0, 62]
abbrev dktX1_stateByReplay_1 : List UInt8 := dkwX1_stateByReplay_1 ++ dktX1_stateByReplay_2
def dkwX1_stateByReplay_0 : List UInt8 := [42, 27, 28, 182, 1, 1, 78, 45, 180, 1, 5, 28, 4, 100, 185, 0, 71, 2, 0, 192, 0, 75, 58, 4]
abbrev dktX1_stateByReplay_0 : List UInt8 := dkwX1_stateByReplay_0 ++ dktX1_stateByReplay_1
theorem dksX1_stateByReplay_0 : cX1_stateByReplay.data.toList.drop 0 = dktX1_stateByReplay_0 := by decide +kernel
theorem dksX1_stateByReplay_1 : cX1_stateByReplay.data.toList.drop 24 = dktX1_stateByReplay_1 := dk_seg dksX1_stateByReplay_0 24 rfl rfl
theorem dksX1_stateByReplay_2 : cX1_stateByReplay.data.toList.drop 48 = dktX1_stateByReplay_2 := dk_seg dksX1_stateByReplay_1 24 rfl rfl
theorem dksX1_stateByReplay_3 : cX1_stateByReplay.data.toList.drop 71 = dktX1_stateByReplay_3 := dk_seg dksX1_stateByReplay_2 23 rfl rfl
theorem dksX1_stateByReplay_4 : cX1_stateByReplay.data.toList.drop 93 = dktX1_stateByReplay_4 := dk_seg dksX1_stateByReplay_3 22 rfl rfl
theorem dX1_stateByReplay_0 : decode cX1_stateByReplay 0 = .ok (.aload_n 0, 1) := dk_42 (dk_at dksX1_stateByReplay_0 0 rfl rfl)
theorem dX1_stateByReplay_1 : decode cX1_stateByReplay 1 = .ok (.iload_n 1, 1) := dk_27 (dk_at dksX1_stateByReplay_0 1 rfl rfl)
theorem dX1_stateByReplay_2 : decode cX1_stateByReplay 2 = .ok (.iload_n 2, 1) := dk_28 (dk_at dksX1_stateByReplay_0 2 rfl rfl)
theorem dX1_stateByReplay_3 : decode cX1_stateByReplay 3 = .ok (.invokevirtual 257, 3) := dk_182 1 1 (dk_at dksX1_stateByReplay_0 3 rfl rfl)
theorem dX1_stateByReplay_6 : decode cX1_stateByReplay 6 = .ok (.astore_n 3, 1) := dk_78 (dk_at dksX1_stateByReplay_0 6 rfl rfl)
theorem dX1_stateByReplay_7 : decode cX1_stateByReplay 7 = .ok (.aload_n 3, 1) := dk_45 (dk_at dksX1_stateByReplay_0 7 rfl rfl)
theorem dX1_stateByReplay_8 : decode cX1_stateByReplay 8 = .ok (.getfield 261, 3) := dk_180 1 5 (dk_at dksX1_stateByReplay_0 8 rfl rfl)
theorem dX1_stateByReplay_11 : decode cX1_stateByReplay 11 = .ok (.iload_n 2, 1) := dk_28 (dk_at dksX1_stateByReplay_0 11 rfl rfl)
theorem dX1_stateByReplay_12 : decode cX1_stateByReplay 12 = .ok (.iconst 1, 1) := dk_4 (dk_at dksX1_stateByReplay_0 12 rfl rfl)
theorem dX1_stateByReplay_13 : decode cX1_stateByReplay 13 = .ok (.isub, 1) := dk_100 (dk_at dksX1_stateByReplay_0 13 rfl rfl)
theorem dX1_stateByReplay_14 : decode cX1_stateByReplay 14 = .ok (.invokeinterface 71 2, 5) := by decide +kernel
theorem dX1_stateByReplay_19 : decode cX1_stateByReplay 19 = .ok (.checkcast 75, 3) := dk_192 0 75 (dk_at dksX1_stateByReplay_0 19 rfl rfl)
theorem dX1_stateByReplay_22 : decode cX1_stateByReplay 22 = .ok (.astore 4, 2) := dk_58 4 (dk_at dksX1_stateByReplay_0 22 rfl rfl)
theorem dX1_stateByReplay_24 : decode cX1_stateByReplay 24 = .ok (.iconst 0, 1) := dk_3 (dk_at dksX1_stateByReplay_1 0 rfl rfl)
theorem dX1_stateByReplay_25 : decode cX1_stateByReplay 25 = .ok (.istore 5, 2) := dk_54 5 (dk_at dksX1_stateByReplay_1 1 rfl rfl)
theorem dX1_stateByReplay_27 : decode cX1_stateByReplay 27 = .ok (.aload_n 0, 1) := dk_42 (dk_at dksX1_stateByReplay_1 3 rfl rfl)
theorem dX1_stateByReplay_28 : decode cX1_stateByReplay 28 = .ok (.getfield 34, 3) := dk_180 0 34 (dk_at dksX1_stateByReplay_1 4 rfl rfl)
theorem dX1_stateByReplay_31 : decode cX1_stateByReplay 31 = .ok (.invokeinterface 124 1, 5) := by decide +kernel
theorem dX1_stateByReplay_36 : decode cX1_stateByReplay 36 = .ok (.astore 6, 2) := dk_58 6 (dk_at dksX1_stateByReplay_1 12 rfl rfl)
theorem dX1_stateByReplay_38 : decode cX1_stateByReplay 38 = .ok (.aload 6, 2) := dk_25 6 (dk_at dksX1_stateByReplay_1 14 rfl rfl)
theorem dX1_stateByReplay_40 : decode cX1_stateByReplay 40 = .ok (.invokeinterface 128 1, 5) := by decide +kernel
theorem dX1_stateByReplay_45 : decode cX1_stateByReplay 45 = .ok (.ifCond .eq 62, 3) := dk_153 0 62 (dk_at dksX1_stateByReplay_1 21 rfl rfl)
theorem dX1_stateByReplay_48 : decode cX1_stateByReplay 48 = .ok (.aload 6, 2) := dk_25 6 (dk_at dksX1_stateByReplay_2 0 rfl rfl)
theorem dX1_stateByReplay_50 : decode cX1_stateByReplay 50 = .ok (.invokeinterface 133 1, 5) := by decide +kernel
theorem dX1_stateByReplay_55 : decode cX1_stateByReplay 55 = .ok (.checkcast 262, 3) := dk_192 1 6 (dk_at dksX1_stateByReplay_2 7 rfl rfl)
theorem dX1_stateByReplay_58 : decode cX1_stateByReplay 58 = .ok (.astore 7, 2) := dk_58 7 (dk_at dksX1_stateByReplay_2 10 rfl rfl)
theorem dX1_stateByReplay_60 : decode cX1_stateByReplay 60 = .ok (.aload 7, 2) := dk_25 7 (dk_at dksX1_stateByReplay_2 12 rfl rfl)
theorem dX1_stateByReplay_62 : decode cX1_stateByReplay 62 = .ok (.aload_n 3, 1) := dk_45 (dk_at dksX1_stateByReplay_2 14 rfl rfl)
theorem dX1_stateByReplay_63 : decode cX1_stateByReplay 63 = .ok (.if_acmp .ne 6, 3) := dk_166 0 6 (dk_at dksX1_stateByReplay_2 15 rfl rfl)
theorem dX1_stateByReplay_66 : decode cX1_stateByReplay 66 = .ok (.goto 41, 3) := dk_167 0 41 (dk_at dksX1_stateByReplay_2 18 rfl rfl)
theorem dX1_stateByReplay_69 : decode cX1_stateByReplay 69 = .ok (.iload 5, 2) := dk_21 5 (dk_at dksX1_stateByReplay_2 21 rfl rfl)
theorem dX1_stateByReplay_71 : decode cX1_stateByReplay 71 = .ok (.aload 7, 2) := dk_25 7 (dk_at dksX1_stateByReplay_3 0 rfl rfl)
theorem dX1_stateByReplay_73 : decode cX1_stateByReplay 73 = .ok (.instanceof 119, 3) := dk_193 0 119 (dk_at dksX1_stateByReplay_3 2 rfl rfl)
theorem dX1_stateByReplay_76 : decode cX1_stateByReplay 76 = .ok (.ifCond .eq 24, 3) := dk_153 0 24 (dk_at dksX1_stateByReplay_3 5 rfl rfl)
theorem dX1_stateByReplay_79 : decode cX1_stateByReplay 79 = .ok (.aload 7, 2) := dk_25 7 (dk_at dksX1_stateByReplay_3 8 rfl rfl)
theorem dX1_stateByReplay_81 : decode cX1_stateByReplay 81 = .ok (.checkcast 119, 3) := dk_192 0 119 (dk_at dksX1_stateByReplay_3 10 rfl rfl)
theorem dX1_stateByReplay_84 : decode cX1_stateByReplay 84 = .ok (.astore 8, 2) := dk_58 8 (dk_at dksX1_stateByReplay_3 13 rfl rfl)
theorem dX1_stateByReplay_86 : decode cX1_stateByReplay 86 = .ok (.aload 8, 2) := dk_25 8 (dk_at dksX1_stateByReplay_3 15 rfl rfl)
theorem dX1_stateByReplay_88 : decode cX1_stateByReplay 88 = .ok (.getfield 264, 3) := dk_180 1 8 (dk_at dksX1_stateByReplay_3 17 rfl rfl)
theorem dX1_stateByReplay_91 : decode cX1_stateByReplay 91 = .ok (.aload 4, 2) := dk_25 4 (dk_at dksX1_stateByReplay_3 20 rfl rfl)
theorem dX1_stateByReplay_93 : decode cX1_stateByReplay 93 = .ok (.if_acmp .ne 7, 3) := dk_166 0 7 (dk_at dksX1_stateByReplay_4 0 rfl rfl)
theorem dX1_stateByReplay_96 : decode cX1_stateByReplay 96 = .ok (.iconst 1, 1) := dk_4 (dk_at dksX1_stateByReplay_4 3 rfl rfl)
theorem dX1_stateByReplay_97 : decode cX1_stateByReplay 97 = .ok (.goto 4, 3) := dk_167 0 4 (dk_at dksX1_stateByReplay_4 4 rfl rfl)
theorem dX1_stateByReplay_100 : decode cX1_stateByReplay 100 = .ok (.iconst 0, 1) := dk_3 (dk_at dksX1_stateByReplay_4 7 rfl rfl)
theorem dX1_stateByReplay_101 : decode cX1_stateByReplay 101 = .ok (.iadd, 1) := dk_96 (dk_at dksX1_stateByReplay_4 8 rfl rfl)
theorem dX1_stateByReplay_102 : decode cX1_stateByReplay 102 = .ok (.istore 5, 2) := dk_54 5 (dk_at dksX1_stateByReplay_4 9 rfl rfl)
theorem dX1_stateByReplay_104 : decode cX1_stateByReplay 104 = .ok (.goto (-66), 3) := dk_167 255 190 (dk_at dksX1_stateByReplay_4 11 rfl rfl)
theorem dX1_stateByReplay_107 : decode cX1_stateByReplay 107 = .ok (.iload 5, 2) := dk_21 5 (dk_at dksX1_stateByReplay_4 14 rfl rfl)
theorem dX1_stateByReplay_109 : decode cX1_stateByReplay 109 = .ok (.ireturn, 1) := dk_172 (dk_at dksX1_stateByReplay_4 16 rfl rfl)
abbrev cX1_outdated : ByteArray := prog_1_method_40_code
def yX1_outdated : MethodName := ⟨RX1, "outdated", "(I)I"⟩
def dkwX1_outdated_2 : List UInt8 := [182, 1, 12, 153, 0, 11, 25, 5, 180, 0, 254, 167, 0, 4, 3, 96, 62, 167, 255, 213, 29, 172]
abbrev dktX1_outdated_2 : List UInt8 := dkwX1_outdated_2 ++ []
def dkwX1_outdated_1 : List UInt8 := [185, 0, 128, 1, 0, 153, 0, 39, 25, 4, 185, 0, 133, 1, 0, 192, 0, 242, 58, 5, 29, 25, 5, 44]
abbrev dktX1_outdated_1 : List UInt8 := dkwX1_outdated_1 ++ dktX1_outdated_2
def dkwX1_outdated_0 : List UInt8 := [42, 27, 182, 0, 107, 77, 3, 62, 42, 180, 0, 37, 185, 0, 124, 1, 0, 58, 4, 25, 4]
abbrev dktX1_outdated_0 : List UInt8 := dkwX1_outdated_0 ++ dktX1_outdated_1
theorem dksX1_outdated_0 : cX1_outdated.data.toList.drop 0 = dktX1_outdated_0 := by decide +kernel
theorem dksX1_outdated_1 : cX1_outdated.data.toList.drop 21 = dktX1_outdated_1 := dk_seg dksX1_outdated_0 21 rfl rfl
theorem dksX1_outdated_2 : cX1_outdated.data.toList.drop 45 = dktX1_outdated_2 := dk_seg dksX1_outdated_1 24 rfl rfl
theorem dX1_outdated_0 : decode cX1_outdated 0 = .ok (.aload_n 0, 1) := dk_42 (dk_at dksX1_outdated_0 0 rfl rfl)
theorem dX1_outdated_1 : decode cX1_outdated 1 = .ok (.iload_n 1, 1) := dk_27 (dk_at dksX1_outdated_0 1 rfl rfl)
theorem dX1_outdated_2 : decode cX1_outdated 2 = .ok (.invokevirtual 107, 3) := dk_182 0 107 (dk_at dksX1_outdated_0 2 rfl rfl)
theorem dX1_outdated_5 : decode cX1_outdated 5 = .ok (.astore_n 2, 1) := dk_77 (dk_at dksX1_outdated_0 5 rfl rfl)
theorem dX1_outdated_6 : decode cX1_outdated 6 = .ok (.iconst 0, 1) := dk_3 (dk_at dksX1_outdated_0 6 rfl rfl)
theorem dX1_outdated_7 : decode cX1_outdated 7 = .ok (.istore_n 3, 1) := dk_62 (dk_at dksX1_outdated_0 7 rfl rfl)
theorem dX1_outdated_8 : decode cX1_outdated 8 = .ok (.aload_n 0, 1) := dk_42 (dk_at dksX1_outdated_0 8 rfl rfl)
theorem dX1_outdated_9 : decode cX1_outdated 9 = .ok (.getfield 37, 3) := dk_180 0 37 (dk_at dksX1_outdated_0 9 rfl rfl)
theorem dX1_outdated_12 : decode cX1_outdated 12 = .ok (.invokeinterface 124 1, 5) := by decide +kernel
theorem dX1_outdated_17 : decode cX1_outdated 17 = .ok (.astore 4, 2) := dk_58 4 (dk_at dksX1_outdated_0 17 rfl rfl)
theorem dX1_outdated_19 : decode cX1_outdated 19 = .ok (.aload 4, 2) := dk_25 4 (dk_at dksX1_outdated_0 19 rfl rfl)
theorem dX1_outdated_21 : decode cX1_outdated 21 = .ok (.invokeinterface 128 1, 5) := by decide +kernel
theorem dX1_outdated_26 : decode cX1_outdated 26 = .ok (.ifCond .eq 39, 3) := dk_153 0 39 (dk_at dksX1_outdated_1 5 rfl rfl)
theorem dX1_outdated_29 : decode cX1_outdated 29 = .ok (.aload 4, 2) := dk_25 4 (dk_at dksX1_outdated_1 8 rfl rfl)
theorem dX1_outdated_31 : decode cX1_outdated 31 = .ok (.invokeinterface 133 1, 5) := by decide +kernel
theorem dX1_outdated_36 : decode cX1_outdated 36 = .ok (.checkcast 242, 3) := dk_192 0 242 (dk_at dksX1_outdated_1 15 rfl rfl)
theorem dX1_outdated_39 : decode cX1_outdated 39 = .ok (.astore 5, 2) := dk_58 5 (dk_at dksX1_outdated_1 18 rfl rfl)
theorem dX1_outdated_41 : decode cX1_outdated 41 = .ok (.iload_n 3, 1) := dk_29 (dk_at dksX1_outdated_1 20 rfl rfl)
theorem dX1_outdated_42 : decode cX1_outdated 42 = .ok (.aload 5, 2) := dk_25 5 (dk_at dksX1_outdated_1 21 rfl rfl)
theorem dX1_outdated_44 : decode cX1_outdated 44 = .ok (.aload_n 2, 1) := dk_44 (dk_at dksX1_outdated_1 23 rfl rfl)
theorem dX1_outdated_45 : decode cX1_outdated 45 = .ok (.invokevirtual 268, 3) := dk_182 1 12 (dk_at dksX1_outdated_2 0 rfl rfl)
theorem dX1_outdated_48 : decode cX1_outdated 48 = .ok (.ifCond .eq 11, 3) := dk_153 0 11 (dk_at dksX1_outdated_2 3 rfl rfl)
theorem dX1_outdated_51 : decode cX1_outdated 51 = .ok (.aload 5, 2) := dk_25 5 (dk_at dksX1_outdated_2 6 rfl rfl)
theorem dX1_outdated_53 : decode cX1_outdated 53 = .ok (.getfield 254, 3) := dk_180 0 254 (dk_at dksX1_outdated_2 8 rfl rfl)
theorem dX1_outdated_56 : decode cX1_outdated 56 = .ok (.goto 4, 3) := dk_167 0 4 (dk_at dksX1_outdated_2 11 rfl rfl)
theorem dX1_outdated_59 : decode cX1_outdated 59 = .ok (.iconst 0, 1) := dk_3 (dk_at dksX1_outdated_2 14 rfl rfl)
theorem dX1_outdated_60 : decode cX1_outdated 60 = .ok (.iadd, 1) := dk_96 (dk_at dksX1_outdated_2 15 rfl rfl)
theorem dX1_outdated_61 : decode cX1_outdated 61 = .ok (.istore_n 3, 1) := dk_62 (dk_at dksX1_outdated_2 16 rfl rfl)
theorem dX1_outdated_62 : decode cX1_outdated 62 = .ok (.goto (-43), 3) := dk_167 255 213 (dk_at dksX1_outdated_2 17 rfl rfl)
theorem dX1_outdated_65 : decode cX1_outdated 65 = .ok (.iload_n 3, 1) := dk_29 (dk_at dksX1_outdated_2 20 rfl rfl)
theorem dX1_outdated_66 : decode cX1_outdated 66 = .ok (.ireturn, 1) := dk_172 (dk_at dksX1_outdated_2 21 rfl rfl)
abbrev cX1_wasteShare : ByteArray := prog_1_method_42_code
def yX1_wasteShare : MethodName := ⟨RX1, "wasteShare", "()F"⟩
def dkwX1_wasteShare_1 : List UInt8 := [182, 1, 16, 137, 42, 180, 0, 50, 182, 1, 16, 137, 110, 174]
abbrev dktX1_wasteShare_1 : List UInt8 := dkwX1_wasteShare_1 ++ []
def dkwX1_wasteShare_0 : List UInt8 := [42, 180, 0, 50, 182, 1, 16, 9, 148, 154, 0, 11, 187, 1, 20, 89, 183, 1, 22, 191, 42, 180, 0, 54]
abbrev dktX1_wasteShare_0 : List UInt8 := dkwX1_wasteShare_0 ++ dktX1_wasteShare_1
theorem dksX1_wasteShare_0 : cX1_wasteShare.data.toList.drop 0 = dktX1_wasteShare_0 := by decide +kernel
theorem dksX1_wasteShare_1 : cX1_wasteShare.data.toList.drop 24 = dktX1_wasteShare_1 := dk_seg dksX1_wasteShare_0 24 rfl rfl
theorem dX1_wasteShare_0 : decode cX1_wasteShare 0 = .ok (.aload_n 0, 1) := dk_42 (dk_at dksX1_wasteShare_0 0 rfl rfl)
theorem dX1_wasteShare_1 : decode cX1_wasteShare 1 = .ok (.getfield 50, 3) := dk_180 0 50 (dk_at dksX1_wasteShare_0 1 rfl rfl)
theorem dX1_wasteShare_4 : decode cX1_wasteShare 4 = .ok (.invokevirtual 272, 3) := dk_182 1 16 (dk_at dksX1_wasteShare_0 4 rfl rfl)
theorem dX1_wasteShare_7 : decode cX1_wasteShare 7 = .ok (.lconst 0, 1) := dk_9 (dk_at dksX1_wasteShare_0 7 rfl rfl)
theorem dX1_wasteShare_8 : decode cX1_wasteShare 8 = .ok (.lcmp, 1) := dk_148 (dk_at dksX1_wasteShare_0 8 rfl rfl)
theorem dX1_wasteShare_9 : decode cX1_wasteShare 9 = .ok (.ifCond .ne 11, 3) := dk_154 0 11 (dk_at dksX1_wasteShare_0 9 rfl rfl)
theorem dX1_wasteShare_12 : decode cX1_wasteShare 12 = .ok (.new 276, 3) := dk_187 1 20 (dk_at dksX1_wasteShare_0 12 rfl rfl)
theorem dX1_wasteShare_15 : decode cX1_wasteShare 15 = .ok (.dup, 1) := dk_89 (dk_at dksX1_wasteShare_0 15 rfl rfl)
theorem dX1_wasteShare_16 : decode cX1_wasteShare 16 = .ok (.invokespecial 278, 3) := dk_183 1 22 (dk_at dksX1_wasteShare_0 16 rfl rfl)
theorem dX1_wasteShare_19 : decode cX1_wasteShare 19 = .ok (.athrow, 1) := dk_191 (dk_at dksX1_wasteShare_0 19 rfl rfl)
theorem dX1_wasteShare_20 : decode cX1_wasteShare 20 = .ok (.aload_n 0, 1) := dk_42 (dk_at dksX1_wasteShare_0 20 rfl rfl)
theorem dX1_wasteShare_21 : decode cX1_wasteShare 21 = .ok (.getfield 54, 3) := dk_180 0 54 (dk_at dksX1_wasteShare_0 21 rfl rfl)
theorem dX1_wasteShare_24 : decode cX1_wasteShare 24 = .ok (.invokevirtual 272, 3) := dk_182 1 16 (dk_at dksX1_wasteShare_1 0 rfl rfl)
theorem dX1_wasteShare_27 : decode cX1_wasteShare 27 = .ok (.l2f, 1) := dk_137 (dk_at dksX1_wasteShare_1 3 rfl rfl)
theorem dX1_wasteShare_28 : decode cX1_wasteShare 28 = .ok (.aload_n 0, 1) := dk_42 (dk_at dksX1_wasteShare_1 4 rfl rfl)
theorem dX1_wasteShare_29 : decode cX1_wasteShare 29 = .ok (.getfield 50, 3) := dk_180 0 50 (dk_at dksX1_wasteShare_1 5 rfl rfl)
theorem dX1_wasteShare_32 : decode cX1_wasteShare 32 = .ok (.invokevirtual 272, 3) := dk_182 1 16 (dk_at dksX1_wasteShare_1 8 rfl rfl)
theorem dX1_wasteShare_35 : decode cX1_wasteShare 35 = .ok (.l2f, 1) := dk_137 (dk_at dksX1_wasteShare_1 11 rfl rfl)
theorem dX1_wasteShare_36 : decode cX1_wasteShare 36 = .ok (.fdiv, 1) := dk_110 (dk_at dksX1_wasteShare_1 12 rfl rfl)
theorem dX1_wasteShare_37 : decode cX1_wasteShare 37 = .ok (.freturn, 1) := dk_174 (dk_at dksX1_wasteShare_1 13 rfl rfl)
abbrev cX1_meanMakeready : ByteArray := prog_1_method_43_code
def yX1_meanMakeready : MethodName := ⟨RX1, "meanMakeready", "()D"⟩
def dkwX1_meanMakeready_1 : List UInt8 := [135, 111, 175]
abbrev dktX1_meanMakeready_1 : List UInt8 := dkwX1_meanMakeready_1 ++ []
def dkwX1_meanMakeready_0 : List UInt8 := [42, 180, 0, 205, 154, 0, 11, 187, 1, 20, 89, 183, 1, 22, 191, 42, 180, 0, 208, 138, 42, 180, 0, 205]
abbrev dktX1_meanMakeready_0 : List UInt8 := dkwX1_meanMakeready_0 ++ dktX1_meanMakeready_1
theorem dksX1_meanMakeready_0 : cX1_meanMakeready.data.toList.drop 0 = dktX1_meanMakeready_0 := by decide +kernel
theorem dksX1_meanMakeready_1 : cX1_meanMakeready.data.toList.drop 24 = dktX1_meanMakeready_1 := dk_seg dksX1_meanMakeready_0 24 rfl rfl
theorem dX1_meanMakeready_0 : decode cX1_meanMakeready 0 = .ok (.aload_n 0, 1) := dk_42 (dk_at dksX1_meanMakeready_0 0 rfl rfl)
theorem dX1_meanMakeready_1 : decode cX1_meanMakeready 1 = .ok (.getfield 205, 3) := dk_180 0 205 (dk_at dksX1_meanMakeready_0 1 rfl rfl)
theorem dX1_meanMakeready_4 : decode cX1_meanMakeready 4 = .ok (.ifCond .ne 11, 3) := dk_154 0 11 (dk_at dksX1_meanMakeready_0 4 rfl rfl)
theorem dX1_meanMakeready_7 : decode cX1_meanMakeready 7 = .ok (.new 276, 3) := dk_187 1 20 (dk_at dksX1_meanMakeready_0 7 rfl rfl)
theorem dX1_meanMakeready_10 : decode cX1_meanMakeready 10 = .ok (.dup, 1) := dk_89 (dk_at dksX1_meanMakeready_0 10 rfl rfl)
theorem dX1_meanMakeready_11 : decode cX1_meanMakeready 11 = .ok (.invokespecial 278, 3) := dk_183 1 22 (dk_at dksX1_meanMakeready_0 11 rfl rfl)
theorem dX1_meanMakeready_14 : decode cX1_meanMakeready 14 = .ok (.athrow, 1) := dk_191 (dk_at dksX1_meanMakeready_0 14 rfl rfl)
theorem dX1_meanMakeready_15 : decode cX1_meanMakeready 15 = .ok (.aload_n 0, 1) := dk_42 (dk_at dksX1_meanMakeready_0 15 rfl rfl)
theorem dX1_meanMakeready_16 : decode cX1_meanMakeready 16 = .ok (.getfield 208, 3) := dk_180 0 208 (dk_at dksX1_meanMakeready_0 16 rfl rfl)
theorem dX1_meanMakeready_19 : decode cX1_meanMakeready 19 = .ok (.l2d, 1) := dk_138 (dk_at dksX1_meanMakeready_0 19 rfl rfl)
theorem dX1_meanMakeready_20 : decode cX1_meanMakeready 20 = .ok (.aload_n 0, 1) := dk_42 (dk_at dksX1_meanMakeready_0 20 rfl rfl)
theorem dX1_meanMakeready_21 : decode cX1_meanMakeready 21 = .ok (.getfield 205, 3) := dk_180 0 205 (dk_at dksX1_meanMakeready_0 21 rfl rfl)
theorem dX1_meanMakeready_24 : decode cX1_meanMakeready 24 = .ok (.i2d, 1) := dk_135 (dk_at dksX1_meanMakeready_1 0 rfl rfl)
theorem dX1_meanMakeready_25 : decode cX1_meanMakeready 25 = .ok (.ddiv, 1) := dk_111 (dk_at dksX1_meanMakeready_1 1 rfl rfl)
theorem dX1_meanMakeready_26 : decode cX1_meanMakeready 26 = .ok (.dreturn, 1) := dk_175 (dk_at dksX1_meanMakeready_1 2 rfl rfl)
theorem q41 : (Jvm.Cond.initialized "BinderyDesk") ∈ lw_all := lw_g (lw_at lw_m1 1 rfl) rfl
theorem q86 : (Jvm.Cond.instantiable "BinderyDesk" (11 : Nat)) ∈ lw_all := lw_g (lw_at lw_m1 46 rfl) rfl
theorem q88 : (Jvm.Cond.instanceMethod ({ cls := "BinderyDesk", name := "<init>", desc := "()V" } : Jvm.MethodName)) ∈ lw_all := lw_g (lw_at lw_m1 48 rfl) rfl
theorem q89 : (Jvm.Cond.code ({ cls := "BinderyDesk", name := "<init>", desc := "()V" } : Jvm.MethodName) prog_1_method_6_code (1 : Nat) (Option.none : Option Jvm.ClassFile.FieldType)) ∈ lw_all := lw_g (lw_at lw_m1 49 rfl) rfl
theorem q90 : (Jvm.Cond.methodLink "BinderyDesk" (21 : Nat) ({ cls := "java/lang/Object", name := "<init>", desc := "()V" } : Jvm.MethodName)) ∈ lw_all := lw_g (lw_at lw_m1 50 rfl) rfl
theorem q93 : (Jvm.Cond.classLink "BinderyDesk" (24 : Nat) "java/util/ArrayList") ∈ lw_all := lw_g (lw_at lw_m1 53 rfl) rfl
theorem q95 : (Jvm.Cond.methodLink "BinderyDesk" (26 : Nat) ({ cls := "java/util/ArrayList", name := "<init>", desc := "()V" } : Jvm.MethodName)) ∈ lw_all := lw_g (lw_at lw_m1 55 rfl) rfl
theorem q122 : (Jvm.Cond.classLink "BinderyDesk" (40 : Nat) "java/util/TreeSet") ∈ lw_all := lw_g (lw_at lw_m1 82 rfl) rfl
theorem q124 : (Jvm.Cond.methodLink "BinderyDesk" (42 : Nat) ({ cls := "java/util/TreeSet", name := "<init>", desc := "()V" } : Jvm.MethodName)) ∈ lw_all := lw_g (lw_at lw_m1 84 rfl) rfl
theorem q172 : (Jvm.Cond.classLink "BinderyDesk" (47 : Nat) "BinderyDesk$Counter") ∈ lw_all := lw_g (lw_at lw_m1 132 rfl) rfl
theorem q174 : (Jvm.Cond.methodLinkNest "BinderyDesk" (49 : Nat) ({ cls := "BinderyDesk$Counter", name := "<init>", desc := "()V" } : Jvm.MethodName) "BinderyDesk") ∈ lw_tbl := lw_at lw_m1 134 rfl
theorem q182 : (Jvm.Cond.fieldLink "BinderyDesk" (27 : Nat) "BinderyDesk" "contents" "Ljava/util/List;") ∈ lw_all := lw_g (lw_at lw_m1 142 rfl) rfl
theorem q183 : (Jvm.Cond.fieldLink "BinderyDesk" (31 : Nat) "BinderyDesk" "jobs" "Ljava/util/List;") ∈ lw_all := lw_g (lw_at lw_m1 143 rfl) rfl
theorem q184 : (Jvm.Cond.fieldLink "BinderyDesk" (34 : Nat) "BinderyDesk" "log" "Ljava/util/List;") ∈ lw_all := lw_g (lw_at lw_m1 144 rfl) rfl
theorem q185 : (Jvm.Cond.fieldLink "BinderyDesk" (37 : Nat) "BinderyDesk" "lots" "Ljava/util/List;") ∈ lw_all := lw_g (lw_at lw_m1 145 rfl) rfl
theorem q186 : (Jvm.Cond.fieldLink "BinderyDesk" (43 : Nat) "BinderyDesk" "plates" "Ljava/util/TreeSet;") ∈ lw_all := lw_g (lw_at lw_m1 146 rfl) rfl
theorem q187 : (Jvm.Cond.fieldLink "BinderyDesk" (50 : Nat) "BinderyDesk" "printed" "LBinderyDesk$Counter;") ∈ lw_all := lw_g (lw_at lw_m1 147 rfl) rfl
theorem q188 : (Jvm.Cond.fieldLink "BinderyDesk" (54 : Nat) "BinderyDesk" "wasted" "LBinderyDesk$Counter;") ∈ lw_all := lw_g (lw_at lw_m1 148 rfl) rfl
theorem q189 : (Jvm.Cond.fieldLink "BinderyDesk" (205 : Nat) "BinderyDesk" "prints" "I") ∈ lw_all := lw_g (lw_at lw_m1 149 rfl) rfl
theorem q190 : (Jvm.Cond.fieldLink "BinderyDesk" (208 : Nat) "BinderyDesk" "makeready" "J") ∈ lw_all := lw_g (lw_at lw_m1 150 rfl) rfl
theorem q191 : (Jvm.Cond.fieldLink "BinderyDesk" (57 : Nat) "BinderyDesk" "press" "[I") ∈ lw_all := lw_g (lw_at lw_m1 151 rfl) rfl
theorem q192 : (Jvm.Cond.fieldLink "BinderyDesk" (170 : Nat) "BinderyDesk" "pressBinding" "LBinderyDesk$Binding;") ∈ lw_all := lw_g (lw_at lw_m1 152 rfl) rfl
theorem q193 : (Jvm.Cond.laysFinal "BinderyDesk" "BinderyDesk" "contents" "Ljava/util/List;") ∈ lw_all := lw_g (lw_at lw_m1 153 rfl) rfl
theorem q194 : (Jvm.Cond.soleField "BinderyDesk" "contents") ∈ lw_all := lw_g (lw_at lw_m1 154 rfl) rfl
theorem q195 : (Jvm.Cond.laysFinal "BinderyDesk" "BinderyDesk" "jobs" "Ljava/util/List;") ∈ lw_all := lw_g (lw_at lw_m1 155 rfl) rfl
theorem q196 : (Jvm.Cond.soleField "BinderyDesk" "jobs") ∈ lw_all := lw_g (lw_at lw_m1 156 rfl) rfl
theorem q197 : (Jvm.Cond.laysFinal "BinderyDesk" "BinderyDesk" "log" "Ljava/util/List;") ∈ lw_all := lw_g (lw_at lw_m1 157 rfl) rfl
theorem q198 : (Jvm.Cond.soleField "BinderyDesk" "log") ∈ lw_all := lw_g (lw_at lw_m1 158 rfl) rfl
theorem q199 : (Jvm.Cond.laysFinal "BinderyDesk" "BinderyDesk" "lots" "Ljava/util/List;") ∈ lw_all := lw_g (lw_at lw_m1 159 rfl) rfl
theorem q200 : (Jvm.Cond.soleField "BinderyDesk" "lots") ∈ lw_all := lw_g (lw_at lw_m1 160 rfl) rfl
theorem q201 : (Jvm.Cond.laysFinal "BinderyDesk" "BinderyDesk" "plates" "Ljava/util/TreeSet;") ∈ lw_all := lw_g (lw_at lw_m1 161 rfl) rfl
theorem q202 : (Jvm.Cond.soleField "BinderyDesk" "plates") ∈ lw_all := lw_g (lw_at lw_m1 162 rfl) rfl
theorem q203 : (Jvm.Cond.laysFinal "BinderyDesk" "BinderyDesk" "printed" "LBinderyDesk$Counter;") ∈ lw_all := lw_g (lw_at lw_m1 163 rfl) rfl
theorem q204 : (Jvm.Cond.soleField "BinderyDesk" "printed") ∈ lw_all := lw_g (lw_at lw_m1 164 rfl) rfl
theorem q205 : (Jvm.Cond.laysFinal "BinderyDesk" "BinderyDesk" "wasted" "LBinderyDesk$Counter;") ∈ lw_all := lw_g (lw_at lw_m1 165 rfl) rfl
theorem q206 : (Jvm.Cond.soleField "BinderyDesk" "wasted") ∈ lw_all := lw_g (lw_at lw_m1 166 rfl) rfl
theorem q207 : (Jvm.Cond.lays "BinderyDesk" "BinderyDesk" "prints" "I") ∈ lw_all := lw_g (lw_at lw_m1 167 rfl) rfl
theorem q208 : (Jvm.Cond.soleField "BinderyDesk" "prints") ∈ lw_all := lw_g (lw_at lw_m1 168 rfl) rfl
theorem q209 : (Jvm.Cond.lays "BinderyDesk" "BinderyDesk" "makeready" "J") ∈ lw_all := lw_g (lw_at lw_m1 169 rfl) rfl
theorem q210 : (Jvm.Cond.soleField "BinderyDesk" "makeready") ∈ lw_all := lw_g (lw_at lw_m1 170 rfl) rfl
theorem q211 : (Jvm.Cond.laysFinal "BinderyDesk" "BinderyDesk" "press" "[I") ∈ lw_all := lw_g (lw_at lw_m1 171 rfl) rfl
theorem q212 : (Jvm.Cond.soleField "BinderyDesk" "press") ∈ lw_all := lw_g (lw_at lw_m1 172 rfl) rfl
theorem q213 : (Jvm.Cond.lays "BinderyDesk" "BinderyDesk" "pressBinding" "LBinderyDesk$Binding;") ∈ lw_all := lw_g (lw_at lw_m1 173 rfl) rfl
theorem q214 : (Jvm.Cond.soleField "BinderyDesk" "pressBinding") ∈ lw_all := lw_g (lw_at lw_m1 174 rfl) rfl
theorem q215 : (Jvm.Cond.superclass "BinderyDesk" "java/lang/Object") ∈ lw_all := lw_g (lw_at lw_m1 175 rfl) rfl
theorem q218 : (Jvm.Cond.instanceMethod ({ cls := "BinderyDesk", name := "plates", desc := "()I" } : Jvm.MethodName)) ∈ lw_all := lw_g (lw_at lw_m1 178 rfl) rfl
theorem q219 : (Jvm.Cond.selects "BinderyDesk" ({ cls := "BinderyDesk", name := "plates", desc := "()I" } : Jvm.MethodName) ({ cls := "BinderyDesk", name := "plates", desc := "()I" } : Jvm.MethodName)) ∈ lw_all := lw_g (lw_at lw_m1 179 rfl) rfl
theorem q220 : (Jvm.Cond.code ({ cls := "BinderyDesk", name := "plates", desc := "()I" } : Jvm.MethodName) prog_1_method_30_code (1 : Nat) (Option.some Jvm.ClassFile.FieldType.int)) ∈ lw_all := lw_g (lw_at lw_m1 180 rfl) rfl
theorem q221 : (Jvm.Cond.methodLink "BinderyDesk" (230 : Nat) ({ cls := "java/util/TreeSet", name := "size", desc := "()I" } : Jvm.MethodName)) ∈ lw_all := lw_g (lw_at lw_m1 181 rfl) rfl
theorem q235 : (Jvm.Cond.instanceMethod ({ cls := "BinderyDesk", name := "lots", desc := "()I" } : Jvm.MethodName)) ∈ lw_all := lw_g (lw_at lw_m1 195 rfl) rfl
theorem q236 : (Jvm.Cond.selects "BinderyDesk" ({ cls := "BinderyDesk", name := "lots", desc := "()I" } : Jvm.MethodName) ({ cls := "BinderyDesk", name := "lots", desc := "()I" } : Jvm.MethodName)) ∈ lw_all := lw_g (lw_at lw_m1 196 rfl) rfl
theorem q237 : (Jvm.Cond.code ({ cls := "BinderyDesk", name := "lots", desc := "()I" } : Jvm.MethodName) prog_1_method_34_code (1 : Nat) (Option.some Jvm.ClassFile.FieldType.int)) ∈ lw_all := lw_g (lw_at lw_m1 197 rfl) rfl
theorem q238 : (Jvm.Cond.interfaceEntry "BinderyDesk" (61 : Nat)) ∈ lw_tbl := lw_at lw_m1 198 rfl
theorem q239 : (Jvm.Cond.methodLink "BinderyDesk" (61 : Nat) ({ cls := "java/util/List", name := "size", desc := "()I" } : Jvm.MethodName)) ∈ lw_all := lw_g (lw_at lw_m1 199 rfl) rfl
theorem q249 : (Jvm.Cond.instanceMethod ({ cls := "BinderyDesk", name := "waste", desc := "()J" } : Jvm.MethodName)) ∈ lw_all := lw_g (lw_at lw_m1 209 rfl) rfl
theorem q250 : (Jvm.Cond.selects "BinderyDesk" ({ cls := "BinderyDesk", name := "waste", desc := "()J" } : Jvm.MethodName) ({ cls := "BinderyDesk", name := "waste", desc := "()J" } : Jvm.MethodName)) ∈ lw_all := lw_g (lw_at lw_m1 210 rfl) rfl
theorem q251 : (Jvm.Cond.code ({ cls := "BinderyDesk", name := "waste", desc := "()J" } : Jvm.MethodName) prog_1_method_41_code (1 : Nat) (Option.some Jvm.ClassFile.FieldType.long)) ∈ lw_all := lw_g (lw_at lw_m1 211 rfl) rfl
theorem q252 : (Jvm.Cond.methodLink "BinderyDesk" (272 : Nat) ({ cls := "BinderyDesk$Counter", name := "count", desc := "()J" } : Jvm.MethodName)) ∈ lw_all := lw_g (lw_at lw_m1 212 rfl) rfl
theorem q263 : (Jvm.Cond.instanceMethod ({ cls := "BinderyDesk", name := "addContent", desc := "()I" } : Jvm.MethodName)) ∈ lw_all := lw_g (lw_at lw_m1 223 rfl) rfl
theorem q264 : (Jvm.Cond.selects "BinderyDesk" ({ cls := "BinderyDesk", name := "addContent", desc := "()I" } : Jvm.MethodName) ({ cls := "BinderyDesk", name := "addContent", desc := "()I" } : Jvm.MethodName)) ∈ lw_all := lw_g (lw_at lw_m1 224 rfl) rfl
theorem q265 : (Jvm.Cond.code ({ cls := "BinderyDesk", name := "addContent", desc := "()I" } : Jvm.MethodName) prog_1_method_11_code (1 : Nat) (Option.some Jvm.ClassFile.FieldType.int)) ∈ lw_all := lw_g (lw_at lw_m1 225 rfl) rfl
theorem q266 : (Jvm.Cond.methodLink "BinderyDesk" (87 : Nat) ({ cls := "BinderyDesk", name := "requireState", desc := "(Z)V" } : Jvm.MethodName)) ∈ lw_all := lw_g (lw_at lw_m1 226 rfl) rfl
theorem q267 : (Jvm.Cond.static ({ cls := "BinderyDesk", name := "requireState", desc := "(Z)V" } : Jvm.MethodName)) ∈ lw_all := lw_g (lw_at lw_m1 227 rfl) rfl
theorem q268 : (Jvm.Cond.code ({ cls := "BinderyDesk", name := "requireState", desc := "(Z)V" } : Jvm.MethodName) prog_1_method_3_code (1 : Nat) (Option.none : Option Jvm.ClassFile.FieldType)) ∈ lw_all := lw_g (lw_at lw_m1 228 rfl) rfl
theorem q269 : (Jvm.Cond.classLink "BinderyDesk" (12 : Nat) "java/lang/IllegalStateException") ∈ lw_all := lw_g (lw_at lw_m1 229 rfl) rfl
theorem q315 : (Jvm.Cond.methodLink "BinderyDesk" (14 : Nat) ({ cls := "java/lang/IllegalStateException", name := "<init>", desc := "()V" } : Jvm.MethodName)) ∈ lw_all := lw_g (lw_at lw_m2 35 rfl) rfl
theorem q338 : (Jvm.Cond.classLink "BinderyDesk" (75 : Nat) "BinderyDesk$Content") ∈ lw_all := lw_g (lw_at lw_m2 58 rfl) rfl
theorem q340 : (Jvm.Cond.methodLink "BinderyDesk" (100 : Nat) ({ cls := "BinderyDesk$Content", name := "<init>", desc := "(I)V" } : Jvm.MethodName)) ∈ lw_all := lw_g (lw_at lw_m2 60 rfl) rfl
theorem q347 : (Jvm.Cond.fieldLinkNest "BinderyDesk" (115 : Nat) "BinderyDesk$Content" "state" "I" "BinderyDesk") ∈ lw_tbl := lw_at lw_m2 67 rfl
theorem q349 : (Jvm.Cond.fieldLinkNest "BinderyDesk" (111 : Nat) "BinderyDesk$Content" "isApproved" "Z" "BinderyDesk") ∈ lw_tbl := lw_at lw_m2 69 rfl
theorem q357 : (Jvm.Cond.interfaceEntry "BinderyDesk" (103 : Nat)) ∈ lw_tbl := lw_at lw_m2 77 rfl
theorem q358 : (Jvm.Cond.methodLink "BinderyDesk" (103 : Nat) ({ cls := "java/util/List", name := "add", desc := "(Ljava/lang/Object;)Z" } : Jvm.MethodName)) ∈ lw_all := lw_g (lw_at lw_m2 78 rfl) rfl
theorem q394 : (Jvm.Cond.selects "BinderyDesk" ({ cls := "java/lang/Object", name := "getClass", desc := "()Ljava/lang/Class;" } : Jvm.MethodName) ({ cls := "java/lang/Object", name := "getClass", desc := "()Ljava/lang/Class;" } : Jvm.MethodName)) ∈ lw_all := lw_g (lw_at lw_m2 114 rfl) rfl
theorem q473 : (Jvm.Cond.instanceMethod ({ cls := "BinderyDesk", name := "approve", desc := "(I)Z" } : Jvm.MethodName)) ∈ lw_all := lw_g (lw_at lw_m2 193 rfl) rfl
theorem q474 : (Jvm.Cond.selects "BinderyDesk" ({ cls := "BinderyDesk", name := "approve", desc := "(I)Z" } : Jvm.MethodName) ({ cls := "BinderyDesk", name := "approve", desc := "(I)Z" } : Jvm.MethodName)) ∈ lw_all := lw_g (lw_at lw_m2 194 rfl) rfl
theorem q475 : (Jvm.Cond.code ({ cls := "BinderyDesk", name := "approve", desc := "(I)Z" } : Jvm.MethodName) prog_1_method_12_code (4 : Nat) (Option.some Jvm.ClassFile.FieldType.boolean)) ∈ lw_all := lw_g (lw_at lw_m2 195 rfl) rfl
theorem q476 : (Jvm.Cond.methodLink "BinderyDesk" (107 : Nat) ({ cls := "BinderyDesk", name := "contentNumbered", desc := "(I)LBinderyDesk$Content;" } : Jvm.MethodName)) ∈ lw_all := lw_g (lw_at lw_m2 196 rfl) rfl
theorem q477 : (Jvm.Cond.privateMethod ({ cls := "BinderyDesk", name := "contentNumbered", desc := "(I)LBinderyDesk$Content;" } : Jvm.MethodName)) ∈ lw_tbl := lw_at lw_m2 197 rfl
theorem q478 : (Jvm.Cond.instanceMethod ({ cls := "BinderyDesk", name := "contentNumbered", desc := "(I)LBinderyDesk$Content;" } : Jvm.MethodName)) ∈ lw_all := lw_g (lw_at lw_m2 198 rfl) rfl
theorem q479 : (Jvm.Cond.code ({ cls := "BinderyDesk", name := "contentNumbered", desc := "(I)LBinderyDesk$Content;" } : Jvm.MethodName) prog_1_method_7_code (2 : Nat) (Option.some (Jvm.ClassFile.FieldType.object "BinderyDesk$Content"))) ∈ lw_all := lw_g (lw_at lw_m2 199 rfl) rfl
theorem q480 : (Jvm.Cond.methodLink "BinderyDesk" (67 : Nat) ({ cls := "BinderyDesk", name := "requireIndex", desc := "(II)V" } : Jvm.MethodName)) ∈ lw_all := lw_g (lw_at lw_m2 200 rfl) rfl
theorem q481 : (Jvm.Cond.static ({ cls := "BinderyDesk", name := "requireIndex", desc := "(II)V" } : Jvm.MethodName)) ∈ lw_all := lw_g (lw_at lw_m2 201 rfl) rfl
theorem q482 : (Jvm.Cond.code ({ cls := "BinderyDesk", name := "requireIndex", desc := "(II)V" } : Jvm.MethodName) prog_1_method_1_code (2 : Nat) (Option.none : Option Jvm.ClassFile.FieldType)) ∈ lw_all := lw_g (lw_at lw_m2 202 rfl) rfl
theorem q483 : (Jvm.Cond.classLink "BinderyDesk" (3 : Nat) "java/lang/IndexOutOfBoundsException") ∈ lw_all := lw_g (lw_at lw_m2 203 rfl) rfl
theorem q492 : (Jvm.Cond.methodLink "BinderyDesk" (5 : Nat) ({ cls := "java/lang/IndexOutOfBoundsException", name := "<init>", desc := "()V" } : Jvm.MethodName)) ∈ lw_all := lw_g (lw_at lw_m2 212 rfl) rfl
theorem q498 : (Jvm.Cond.interfaceEntry "BinderyDesk" (71 : Nat)) ∈ lw_tbl := lw_at lw_m2 218 rfl
theorem q499 : (Jvm.Cond.methodLink "BinderyDesk" (71 : Nat) ({ cls := "java/util/List", name := "get", desc := "(I)Ljava/lang/Object;" } : Jvm.MethodName)) ∈ lw_all := lw_g (lw_at lw_m2 219 rfl) rfl
theorem q521 : (Jvm.Cond.instanceMethod ({ cls := "BinderyDesk", name := "correct", desc := "(I)I" } : Jvm.MethodName)) ∈ lw_all := lw_g (lw_at lw_m3 1 rfl) rfl
theorem q522 : (Jvm.Cond.selects "BinderyDesk" ({ cls := "BinderyDesk", name := "correct", desc := "(I)I" } : Jvm.MethodName) ({ cls := "BinderyDesk", name := "correct", desc := "(I)I" } : Jvm.MethodName)) ∈ lw_all := lw_g (lw_at lw_m3 2 rfl) rfl
theorem q523 : (Jvm.Cond.code ({ cls := "BinderyDesk", name := "correct", desc := "(I)I" } : Jvm.MethodName) prog_1_method_13_code (6 : Nat) (Option.some Jvm.ClassFile.FieldType.int)) ∈ lw_all := lw_g (lw_at lw_m3 3 rfl) rfl
theorem q524 : (Jvm.Cond.classLink "BinderyDesk" (119 : Nat) "BinderyDesk$Correction") ∈ lw_all := lw_g (lw_at lw_m3 4 rfl) rfl
theorem q526 : (Jvm.Cond.methodLink "BinderyDesk" (121 : Nat) ({ cls := "BinderyDesk$Correction", name := "<init>", desc := "(LBinderyDesk$Content;)V" } : Jvm.MethodName)) ∈ lw_all := lw_g (lw_at lw_m3 6 rfl) rfl
theorem q531 : (Jvm.Cond.fieldLinkNest "BinderyDesk" (264 : Nat) "BinderyDesk$Correction" "content" "LBinderyDesk$Content;" "BinderyDesk") ∈ lw_tbl := lw_at lw_m3 11 rfl
theorem q535 : (Jvm.Cond.interfaceEntry "BinderyDesk" (124 : Nat)) ∈ lw_tbl := lw_at lw_m3 15 rfl
theorem q536 : (Jvm.Cond.methodLink "BinderyDesk" (124 : Nat) ({ cls := "java/util/List", name := "iterator", desc := "()Ljava/util/Iterator;" } : Jvm.MethodName)) ∈ lw_all := lw_g (lw_at lw_m3 16 rfl) rfl
theorem q563 : (Jvm.Cond.interfaceEntry "BinderyDesk" (128 : Nat)) ∈ lw_tbl := lw_at lw_m3 43 rfl
theorem q564 : (Jvm.Cond.methodLink "BinderyDesk" (128 : Nat) ({ cls := "java/util/Iterator", name := "hasNext", desc := "()Z" } : Jvm.MethodName)) ∈ lw_all := lw_g (lw_at lw_m3 44 rfl) rfl
theorem q579 : (Jvm.Cond.interfaceEntry "BinderyDesk" (133 : Nat)) ∈ lw_tbl := lw_at lw_m3 59 rfl
theorem q580 : (Jvm.Cond.methodLink "BinderyDesk" (133 : Nat) ({ cls := "java/util/Iterator", name := "next", desc := "()Ljava/lang/Object;" } : Jvm.MethodName)) ∈ lw_all := lw_g (lw_at lw_m3 60 rfl) rfl
theorem q623 : (Jvm.Cond.classLink "BinderyDesk" (77 : Nat) "BinderyDesk$Job") ∈ lw_all := lw_g (lw_at lw_m3 103 rfl) rfl
theorem q624 : (Jvm.Cond.methodLink "BinderyDesk" (137 : Nat) ({ cls := "BinderyDesk$Job", name := "takeOff", desc := "(LBinderyDesk$Content;)I" } : Jvm.MethodName)) ∈ lw_all := lw_g (lw_at lw_m3 104 rfl) rfl
theorem q700 : (Jvm.Cond.methodLink "BinderyDesk" (141 : Nat) ({ cls := "BinderyDesk$Counter", name := "add", desc := "(I)V" } : Jvm.MethodName)) ∈ lw_all := lw_g (lw_at lw_m3 180 rfl) rfl
theorem q708 : (Jvm.Cond.instanceMethod ({ cls := "BinderyDesk", name := "state", desc := "(I)I" } : Jvm.MethodName)) ∈ lw_all := lw_g (lw_at lw_m3 188 rfl) rfl
theorem q709 : (Jvm.Cond.selects "BinderyDesk" ({ cls := "BinderyDesk", name := "state", desc := "(I)I" } : Jvm.MethodName) ({ cls := "BinderyDesk", name := "state", desc := "(I)I" } : Jvm.MethodName)) ∈ lw_all := lw_g (lw_at lw_m3 189 rfl) rfl
theorem q710 : (Jvm.Cond.code ({ cls := "BinderyDesk", name := "state", desc := "(I)I" } : Jvm.MethodName) prog_1_method_14_code (2 : Nat) (Option.some Jvm.ClassFile.FieldType.int)) ∈ lw_all := lw_g (lw_at lw_m3 190 rfl) rfl
theorem q716 : (Jvm.Cond.instanceMethod ({ cls := "BinderyDesk", name := "addJob", desc := "(C)I" } : Jvm.MethodName)) ∈ lw_all := lw_g (lw_at lw_m3 196 rfl) rfl
theorem q717 : (Jvm.Cond.selects "BinderyDesk" ({ cls := "BinderyDesk", name := "addJob", desc := "(C)I" } : Jvm.MethodName) ({ cls := "BinderyDesk", name := "addJob", desc := "(C)I" } : Jvm.MethodName)) ∈ lw_all := lw_g (lw_at lw_m3 197 rfl) rfl
theorem q718 : (Jvm.Cond.code ({ cls := "BinderyDesk", name := "addJob", desc := "(C)I" } : Jvm.MethodName) prog_1_method_15_code (3 : Nat) (Option.some Jvm.ClassFile.FieldType.int)) ∈ lw_all := lw_g (lw_at lw_m3 198 rfl) rfl
theorem q719 : (Jvm.Cond.methodLink "BinderyDesk" (143 : Nat) ({ cls := "BinderyDesk$Binding", name := "of", desc := "(C)LBinderyDesk$Binding;" } : Jvm.MethodName)) ∈ lw_all := lw_g (lw_at lw_m3 199 rfl) rfl
theorem q751 : (Jvm.Cond.methodLink "BinderyDesk" (149 : Nat) ({ cls := "BinderyDesk$Job", name := "<init>", desc := "(LBinderyDesk$Binding;LBinderyDesk$Counter;)V" } : Jvm.MethodName)) ∈ lw_all := lw_g (lw_at lw_m3 231 rfl) rfl
theorem q772 : (Jvm.Cond.fieldLinkNest "BinderyDesk" (159 : Nat) "BinderyDesk$Job" "binding" "LBinderyDesk$Binding;" "BinderyDesk") ∈ lw_tbl := lw_at lw_m4 12 rfl
theorem q774 : (Jvm.Cond.fieldLinkNest "BinderyDesk" (152 : Nat) "BinderyDesk$Job" "pages" "Ljava/util/List;" "BinderyDesk") ∈ lw_tbl := lw_at lw_m4 14 rfl
theorem q776 : (Jvm.Cond.fieldLinkNest "BinderyDesk" (179 : Nat) "BinderyDesk$Job" "piles" "Ljava/util/List;" "BinderyDesk") ∈ lw_tbl := lw_at lw_m4 16 rfl
theorem q788 : (Jvm.Cond.instanceMethod ({ cls := "BinderyDesk", name := "addPage", desc := "(II)I" } : Jvm.MethodName)) ∈ lw_all := lw_g (lw_at lw_m4 28 rfl) rfl
theorem q789 : (Jvm.Cond.selects "BinderyDesk" ({ cls := "BinderyDesk", name := "addPage", desc := "(II)I" } : Jvm.MethodName) ({ cls := "BinderyDesk", name := "addPage", desc := "(II)I" } : Jvm.MethodName)) ∈ lw_all := lw_g (lw_at lw_m4 29 rfl) rfl
theorem q790 : (Jvm.Cond.code ({ cls := "BinderyDesk", name := "addPage", desc := "(II)I" } : Jvm.MethodName) prog_1_method_16_code (5 : Nat) (Option.some Jvm.ClassFile.FieldType.int)) ∈ lw_all := lw_g (lw_at lw_m4 30 rfl) rfl
theorem q791 : (Jvm.Cond.methodLink "BinderyDesk" (79 : Nat) ({ cls := "BinderyDesk", name := "jobNumbered", desc := "(I)LBinderyDesk$Job;" } : Jvm.MethodName)) ∈ lw_all := lw_g (lw_at lw_m4 31 rfl) rfl
theorem q792 : (Jvm.Cond.privateMethod ({ cls := "BinderyDesk", name := "jobNumbered", desc := "(I)LBinderyDesk$Job;" } : Jvm.MethodName)) ∈ lw_tbl := lw_at lw_m4 32 rfl
theorem q793 : (Jvm.Cond.instanceMethod ({ cls := "BinderyDesk", name := "jobNumbered", desc := "(I)LBinderyDesk$Job;" } : Jvm.MethodName)) ∈ lw_all := lw_g (lw_at lw_m4 33 rfl) rfl
theorem q794 : (Jvm.Cond.code ({ cls := "BinderyDesk", name := "jobNumbered", desc := "(I)LBinderyDesk$Job;" } : Jvm.MethodName) prog_1_method_8_code (2 : Nat) (Option.some (Jvm.ClassFile.FieldType.object "BinderyDesk$Job"))) ∈ lw_all := lw_g (lw_at lw_m4 34 rfl) rfl
theorem q799 : (Jvm.Cond.instanceMethod ({ cls := "BinderyDesk", name := "pages", desc := "(I)I" } : Jvm.MethodName)) ∈ lw_all := lw_g (lw_at lw_m4 39 rfl) rfl
theorem q800 : (Jvm.Cond.selects "BinderyDesk" ({ cls := "BinderyDesk", name := "pages", desc := "(I)I" } : Jvm.MethodName) ({ cls := "BinderyDesk", name := "pages", desc := "(I)I" } : Jvm.MethodName)) ∈ lw_all := lw_g (lw_at lw_m4 40 rfl) rfl
theorem q801 : (Jvm.Cond.code ({ cls := "BinderyDesk", name := "pages", desc := "(I)I" } : Jvm.MethodName) prog_1_method_17_code (2 : Nat) (Option.some Jvm.ClassFile.FieldType.int)) ∈ lw_all := lw_g (lw_at lw_m4 41 rfl) rfl
theorem q806 : (Jvm.Cond.instanceMethod ({ cls := "BinderyDesk", name := "sheets", desc := "(I)I" } : Jvm.MethodName)) ∈ lw_all := lw_g (lw_at lw_m4 46 rfl) rfl
theorem q807 : (Jvm.Cond.selects "BinderyDesk" ({ cls := "BinderyDesk", name := "sheets", desc := "(I)I" } : Jvm.MethodName) ({ cls := "BinderyDesk", name := "sheets", desc := "(I)I" } : Jvm.MethodName)) ∈ lw_all := lw_g (lw_at lw_m4 47 rfl) rfl
theorem q808 : (Jvm.Cond.code ({ cls := "BinderyDesk", name := "sheets", desc := "(I)I" } : Jvm.MethodName) prog_1_method_18_code (2 : Nat) (Option.some Jvm.ClassFile.FieldType.int)) ∈ lw_all := lw_g (lw_at lw_m4 48 rfl) rfl
theorem q809 : (Jvm.Cond.methodLink "BinderyDesk" (91 : Nat) ({ cls := "BinderyDesk", name := "completeJob", desc := "(I)LBinderyDesk$Job;" } : Jvm.MethodName)) ∈ lw_all := lw_g (lw_at lw_m4 49 rfl) rfl
theorem q810 : (Jvm.Cond.privateMethod ({ cls := "BinderyDesk", name := "completeJob", desc := "(I)LBinderyDesk$Job;" } : Jvm.MethodName)) ∈ lw_tbl := lw_at lw_m4 50 rfl
theorem q811 : (Jvm.Cond.instanceMethod ({ cls := "BinderyDesk", name := "completeJob", desc := "(I)LBinderyDesk$Job;" } : Jvm.MethodName)) ∈ lw_all := lw_g (lw_at lw_m4 51 rfl) rfl
theorem q812 : (Jvm.Cond.code ({ cls := "BinderyDesk", name := "completeJob", desc := "(I)LBinderyDesk$Job;" } : Jvm.MethodName) prog_1_method_9_code (3 : Nat) (Option.some (Jvm.ClassFile.FieldType.object "BinderyDesk$Job"))) ∈ lw_all := lw_g (lw_at lw_m4 52 rfl) rfl
theorem q813 : (Jvm.Cond.methodLink "BinderyDesk" (83 : Nat) ({ cls := "BinderyDesk$Job", name := "isComplete", desc := "()Z" } : Jvm.MethodName)) ∈ lw_all := lw_g (lw_at lw_m4 53 rfl) rfl
theorem q814 : (Jvm.Cond.methodLink "BinderyDesk" (94 : Nat) ({ cls := "BinderyDesk$Job", name := "sheets", desc := "()I" } : Jvm.MethodName)) ∈ lw_all := lw_g (lw_at lw_m4 54 rfl) rfl
theorem q820 : (Jvm.Cond.instanceMethod ({ cls := "BinderyDesk", name := "pageAt", desc := "(III)I" } : Jvm.MethodName)) ∈ lw_all := lw_g (lw_at lw_m4 60 rfl) rfl
theorem q821 : (Jvm.Cond.selects "BinderyDesk" ({ cls := "BinderyDesk", name := "pageAt", desc := "(III)I" } : Jvm.MethodName) ({ cls := "BinderyDesk", name := "pageAt", desc := "(III)I" } : Jvm.MethodName)) ∈ lw_all := lw_g (lw_at lw_m4 61 rfl) rfl
theorem q822 : (Jvm.Cond.code ({ cls := "BinderyDesk", name := "pageAt", desc := "(III)I" } : Jvm.MethodName) prog_1_method_19_code (5 : Nat) (Option.some Jvm.ClassFile.FieldType.int)) ∈ lw_all := lw_g (lw_at lw_m4 62 rfl) rfl
theorem q823 : (Jvm.Cond.methodLink "BinderyDesk" (155 : Nat) ({ cls := "BinderyDesk", name := "jobWithSheet", desc := "(II)LBinderyDesk$Job;" } : Jvm.MethodName)) ∈ lw_all := lw_g (lw_at lw_m4 63 rfl) rfl
theorem q824 : (Jvm.Cond.privateMethod ({ cls := "BinderyDesk", name := "jobWithSheet", desc := "(II)LBinderyDesk$Job;" } : Jvm.MethodName)) ∈ lw_tbl := lw_at lw_m4 64 rfl
theorem q825 : (Jvm.Cond.instanceMethod ({ cls := "BinderyDesk", name := "jobWithSheet", desc := "(II)LBinderyDesk$Job;" } : Jvm.MethodName)) ∈ lw_all := lw_g (lw_at lw_m4 65 rfl) rfl
theorem q826 : (Jvm.Cond.code ({ cls := "BinderyDesk", name := "jobWithSheet", desc := "(II)LBinderyDesk$Job;" } : Jvm.MethodName) prog_1_method_10_code (4 : Nat) (Option.some (Jvm.ClassFile.FieldType.object "BinderyDesk$Job"))) ∈ lw_all := lw_g (lw_at lw_m4 66 rfl) rfl
theorem q827 : (Jvm.Cond.methodLink "BinderyDesk" (97 : Nat) ({ cls := "BinderyDesk", name := "requireElement", desc := "(Z)V" } : Jvm.MethodName)) ∈ lw_all := lw_g (lw_at lw_m4 67 rfl) rfl
theorem q828 : (Jvm.Cond.static ({ cls := "BinderyDesk", name := "requireElement", desc := "(Z)V" } : Jvm.MethodName)) ∈ lw_all := lw_g (lw_at lw_m4 68 rfl) rfl
theorem q829 : (Jvm.Cond.code ({ cls := "BinderyDesk", name := "requireElement", desc := "(Z)V" } : Jvm.MethodName) prog_1_method_2_code (1 : Nat) (Option.none : Option Jvm.ClassFile.FieldType)) ∈ lw_all := lw_g (lw_at lw_m4 69 rfl) rfl
theorem q830 : (Jvm.Cond.classLink "BinderyDesk" (9 : Nat) "java/util/NoSuchElementException") ∈ lw_all := lw_g (lw_at lw_m4 70 rfl) rfl
theorem q831 : (Jvm.Cond.methodLink "BinderyDesk" (11 : Nat) ({ cls := "java/util/NoSuchElementException", name := "<init>", desc := "()V" } : Jvm.MethodName)) ∈ lw_all := lw_g (lw_at lw_m4 71 rfl) rfl
theorem q832 : (Jvm.Cond.methodLink "BinderyDesk" (166 : Nat) ({ cls := "BinderyDesk$Job", name := "pageAt", desc := "(II)I" } : Jvm.MethodName)) ∈ lw_all := lw_g (lw_at lw_m4 72 rfl) rfl
theorem q837 : (Jvm.Cond.instanceMethod ({ cls := "BinderyDesk", name := "sheetOf", desc := "(II)I" } : Jvm.MethodName)) ∈ lw_all := lw_g (lw_at lw_m4 77 rfl) rfl
theorem q838 : (Jvm.Cond.selects "BinderyDesk" ({ cls := "BinderyDesk", name := "sheetOf", desc := "(II)I" } : Jvm.MethodName) ({ cls := "BinderyDesk", name := "sheetOf", desc := "(II)I" } : Jvm.MethodName)) ∈ lw_all := lw_g (lw_at lw_m4 78 rfl) rfl
theorem q839 : (Jvm.Cond.code ({ cls := "BinderyDesk", name := "sheetOf", desc := "(II)I" } : Jvm.MethodName) prog_1_method_20_code (6 : Nat) (Option.some Jvm.ClassFile.FieldType.int)) ∈ lw_all := lw_g (lw_at lw_m4 79 rfl) rfl
theorem q845 : (Jvm.Cond.instanceMethod ({ cls := "BinderyDesk", name := "print", desc := "(III)I" } : Jvm.MethodName)) ∈ lw_all := lw_g (lw_at lw_m4 85 rfl) rfl
theorem q846 : (Jvm.Cond.selects "BinderyDesk" ({ cls := "BinderyDesk", name := "print", desc := "(III)I" } : Jvm.MethodName) ({ cls := "BinderyDesk", name := "print", desc := "(III)I" } : Jvm.MethodName)) ∈ lw_all := lw_g (lw_at lw_m4 86 rfl) rfl
theorem q847 : (Jvm.Cond.code ({ cls := "BinderyDesk", name := "print", desc := "(III)I" } : Jvm.MethodName) prog_1_method_22_code (8 : Nat) (Option.some Jvm.ClassFile.FieldType.int)) ∈ lw_all := lw_g (lw_at lw_m4 87 rfl) rfl
theorem q848 : (Jvm.Cond.methodLink "BinderyDesk" (176 : Nat) ({ cls := "BinderyDesk", name := "requireCount", desc := "(I)V" } : Jvm.MethodName)) ∈ lw_all := lw_g (lw_at lw_m4 88 rfl) rfl
theorem q849 : (Jvm.Cond.static ({ cls := "BinderyDesk", name := "requireCount", desc := "(I)V" } : Jvm.MethodName)) ∈ lw_all := lw_g (lw_at lw_m4 89 rfl) rfl
theorem q850 : (Jvm.Cond.code ({ cls := "BinderyDesk", name := "requireCount", desc := "(I)V" } : Jvm.MethodName) prog_1_method_5_code (1 : Nat) (Option.none : Option Jvm.ClassFile.FieldType)) ∈ lw_all := lw_g (lw_at lw_m4 90 rfl) rfl
theorem q851 : (Jvm.Cond.classLink "BinderyDesk" (18 : Nat) "java/lang/IllegalArgumentException") ∈ lw_all := lw_g (lw_at lw_m4 91 rfl) rfl
theorem q852 : (Jvm.Cond.methodLink "BinderyDesk" (20 : Nat) ({ cls := "java/lang/IllegalArgumentException", name := "<init>", desc := "()V" } : Jvm.MethodName)) ∈ lw_all := lw_g (lw_at lw_m4 92 rfl) rfl
theorem q853 : (Jvm.Cond.classLink "BinderyDesk" (182 : Nat) "BinderyDesk$SheetPile") ∈ lw_all := lw_g (lw_at lw_m4 93 rfl) rfl
theorem q854 : (Jvm.Cond.methodLink "BinderyDesk" (184 : Nat) ({ cls := "BinderyDesk$Job", name := "isApproved", desc := "(I)Z" } : Jvm.MethodName)) ∈ lw_all := lw_g (lw_at lw_m4 94 rfl) rfl
theorem q858 : (Jvm.Cond.methodLink "BinderyDesk" (187 : Nat) ({ cls := "BinderyDesk$SheetPile", name := "stock", desc := "()I" } : Jvm.MethodName)) ∈ lw_all := lw_g (lw_at lw_m4 98 rfl) rfl
theorem q859 : (Jvm.Cond.methodLink "BinderyDesk" (190 : Nat) ({ cls := "BinderyDesk", name := "requirePossible", desc := "(Z)V" } : Jvm.MethodName)) ∈ lw_all := lw_g (lw_at lw_m4 99 rfl) rfl
theorem q860 : (Jvm.Cond.static ({ cls := "BinderyDesk", name := "requirePossible", desc := "(Z)V" } : Jvm.MethodName)) ∈ lw_all := lw_g (lw_at lw_m4 100 rfl) rfl
theorem q861 : (Jvm.Cond.code ({ cls := "BinderyDesk", name := "requirePossible", desc := "(Z)V" } : Jvm.MethodName) prog_1_method_4_code (1 : Nat) (Option.none : Option Jvm.ClassFile.FieldType)) ∈ lw_all := lw_g (lw_at lw_m4 101 rfl) rfl
theorem q862 : (Jvm.Cond.classLink "BinderyDesk" (15 : Nat) "java/lang/UnsupportedOperationException") ∈ lw_all := lw_g (lw_at lw_m4 102 rfl) rfl
theorem q871 : (Jvm.Cond.methodLink "BinderyDesk" (17 : Nat) ({ cls := "java/lang/UnsupportedOperationException", name := "<init>", desc := "()V" } : Jvm.MethodName)) ∈ lw_all := lw_g (lw_at lw_m4 111 rfl) rfl
theorem q877 : (Jvm.Cond.methodLink "BinderyDesk" (193 : Nat) ({ cls := "BinderyDesk", name := "makeready", desc := "(LBinderyDesk$Job;I)I" } : Jvm.MethodName)) ∈ lw_all := lw_g (lw_at lw_m4 117 rfl) rfl
theorem q878 : (Jvm.Cond.privateMethod ({ cls := "BinderyDesk", name := "makeready", desc := "(LBinderyDesk$Job;I)I" } : Jvm.MethodName)) ∈ lw_tbl := lw_at lw_m4 118 rfl
theorem q879 : (Jvm.Cond.instanceMethod ({ cls := "BinderyDesk", name := "makeready", desc := "(LBinderyDesk$Job;I)I" } : Jvm.MethodName)) ∈ lw_all := lw_g (lw_at lw_m4 119 rfl) rfl
theorem q880 : (Jvm.Cond.code ({ cls := "BinderyDesk", name := "makeready", desc := "(LBinderyDesk$Job;I)I" } : Jvm.MethodName) prog_1_method_21_code (5 : Nat) (Option.some Jvm.ClassFile.FieldType.int)) ∈ lw_all := lw_g (lw_at lw_m4 120 rfl) rfl
theorem q881 : (Jvm.Cond.methodLink "BinderyDesk" (173 : Nat) ({ cls := "BinderyDesk$Job", name := "plate", desc := "(II)I" } : Jvm.MethodName)) ∈ lw_all := lw_g (lw_at lw_m4 121 rfl) rfl
theorem q890 : (Jvm.Cond.methodLink "BinderyDesk" (197 : Nat) ({ cls := "java/lang/Integer", name := "valueOf", desc := "(I)Ljava/lang/Integer;" } : Jvm.MethodName)) ∈ lw_all := lw_g (lw_at lw_m4 130 rfl) rfl
theorem q910 : (Jvm.Cond.methodLink "BinderyDesk" (203 : Nat) ({ cls := "java/util/TreeSet", name := "add", desc := "(Ljava/lang/Object;)Z" } : Jvm.MethodName)) ∈ lw_all := lw_g (lw_at lw_m4 150 rfl) rfl
theorem q1069 : (Jvm.Cond.methodLink "BinderyDesk" (204 : Nat) ({ cls := "BinderyDesk$SheetPile", name := "add", desc := "(I)V" } : Jvm.MethodName)) ∈ lw_all := lw_g (lw_at lw_m5 69 rfl) rfl
theorem q1074 : (Jvm.Cond.instanceMethod ({ cls := "BinderyDesk", name := "makeready", desc := "(II)I" } : Jvm.MethodName)) ∈ lw_all := lw_g (lw_at lw_m5 74 rfl) rfl
theorem q1075 : (Jvm.Cond.selects "BinderyDesk" ({ cls := "BinderyDesk", name := "makeready", desc := "(II)I" } : Jvm.MethodName) ({ cls := "BinderyDesk", name := "makeready", desc := "(II)I" } : Jvm.MethodName)) ∈ lw_all := lw_g (lw_at lw_m5 75 rfl) rfl
theorem q1076 : (Jvm.Cond.code ({ cls := "BinderyDesk", name := "makeready", desc := "(II)I" } : Jvm.MethodName) prog_1_method_23_code (4 : Nat) (Option.some Jvm.ClassFile.FieldType.int)) ∈ lw_all := lw_g (lw_at lw_m5 76 rfl) rfl
theorem q1081 : (Jvm.Cond.instanceMethod ({ cls := "BinderyDesk", name := "leastMakeready", desc := "(I)I" } : Jvm.MethodName)) ∈ lw_all := lw_g (lw_at lw_m5 81 rfl) rfl
theorem q1082 : (Jvm.Cond.selects "BinderyDesk" ({ cls := "BinderyDesk", name := "leastMakeready", desc := "(I)I" } : Jvm.MethodName) ({ cls := "BinderyDesk", name := "leastMakeready", desc := "(I)I" } : Jvm.MethodName)) ∈ lw_all := lw_g (lw_at lw_m5 82 rfl) rfl
theorem q1083 : (Jvm.Cond.code ({ cls := "BinderyDesk", name := "leastMakeready", desc := "(I)I" } : Jvm.MethodName) prog_1_method_25_code (10 : Nat) (Option.some Jvm.ClassFile.FieldType.int)) ∈ lw_all := lw_g (lw_at lw_m5 83 rfl) rfl
theorem q1084 : (Jvm.Cond.classLink "BinderyDesk" (211 : Nat) "[[I") ∈ lw_all := lw_g (lw_at lw_m5 84 rfl) rfl
theorem q1086 : (Jvm.Cond.methodLink "BinderyDesk" (213 : Nat) ({ cls := "BinderyDesk", name := "leastBefore", desc := "(LBinderyDesk$Job;[[III)I" } : Jvm.MethodName)) ∈ lw_all := lw_g (lw_at lw_m5 86 rfl) rfl
theorem q1087 : (Jvm.Cond.static ({ cls := "BinderyDesk", name := "leastBefore", desc := "(LBinderyDesk$Job;[[III)I" } : Jvm.MethodName)) ∈ lw_all := lw_g (lw_at lw_m5 87 rfl) rfl
theorem q1088 : (Jvm.Cond.code ({ cls := "BinderyDesk", name := "leastBefore", desc := "(LBinderyDesk$Job;[[III)I" } : Jvm.MethodName) prog_1_method_26_code (7 : Nat) (Option.some Jvm.ClassFile.FieldType.int)) ∈ lw_all := lw_g (lw_at lw_m5 88 rfl) rfl
theorem q1089 : (Jvm.Cond.constant "BinderyDesk" (217 : Nat) (1000000 : Int32)) ∈ lw_all := lw_g (lw_at lw_m5 89 rfl) rfl
theorem q1090 : (Jvm.Cond.methodLink "BinderyDesk" (223 : Nat) ({ cls := "BinderyDesk", name := "between", desc := "(LBinderyDesk$Job;II)I" } : Jvm.MethodName)) ∈ lw_all := lw_g (lw_at lw_m5 90 rfl) rfl
theorem q1091 : (Jvm.Cond.static ({ cls := "BinderyDesk", name := "between", desc := "(LBinderyDesk$Job;II)I" } : Jvm.MethodName)) ∈ lw_all := lw_g (lw_at lw_m5 91 rfl) rfl
theorem q1092 : (Jvm.Cond.code ({ cls := "BinderyDesk", name := "between", desc := "(LBinderyDesk$Job;II)I" } : Jvm.MethodName) prog_1_method_24_code (5 : Nat) (Option.some Jvm.ClassFile.FieldType.int)) ∈ lw_all := lw_g (lw_at lw_m5 92 rfl) rfl
theorem q1093 : (Jvm.Cond.methodLink "BinderyDesk" (218 : Nat) ({ cls := "java/lang/Math", name := "min", desc := "(II)I" } : Jvm.MethodName)) ∈ lw_all := lw_g (lw_at lw_m5 93 rfl) rfl
theorem q1098 : (Jvm.Cond.instanceMethod ({ cls := "BinderyDesk", name := "leastByTrying", desc := "(I)I" } : Jvm.MethodName)) ∈ lw_all := lw_g (lw_at lw_m5 98 rfl) rfl
theorem q1099 : (Jvm.Cond.selects "BinderyDesk" ({ cls := "BinderyDesk", name := "leastByTrying", desc := "(I)I" } : Jvm.MethodName) ({ cls := "BinderyDesk", name := "leastByTrying", desc := "(I)I" } : Jvm.MethodName)) ∈ lw_all := lw_g (lw_at lw_m5 99 rfl) rfl
theorem q1100 : (Jvm.Cond.code ({ cls := "BinderyDesk", name := "leastByTrying", desc := "(I)I" } : Jvm.MethodName) prog_1_method_28_code (3 : Nat) (Option.some Jvm.ClassFile.FieldType.int)) ∈ lw_all := lw_g (lw_at lw_m5 100 rfl) rfl
theorem q1101 : (Jvm.Cond.methodLink "BinderyDesk" (227 : Nat) ({ cls := "BinderyDesk", name := "tryOrders", desc := "(LBinderyDesk$Job;II)I" } : Jvm.MethodName)) ∈ lw_all := lw_g (lw_at lw_m5 101 rfl) rfl
theorem q1102 : (Jvm.Cond.privateMethod ({ cls := "BinderyDesk", name := "tryOrders", desc := "(LBinderyDesk$Job;II)I" } : Jvm.MethodName)) ∈ lw_tbl := lw_at lw_m5 102 rfl
theorem q1103 : (Jvm.Cond.instanceMethod ({ cls := "BinderyDesk", name := "tryOrders", desc := "(LBinderyDesk$Job;II)I" } : Jvm.MethodName)) ∈ lw_all := lw_g (lw_at lw_m5 103 rfl) rfl
theorem q1104 : (Jvm.Cond.code ({ cls := "BinderyDesk", name := "tryOrders", desc := "(LBinderyDesk$Job;II)I" } : Jvm.MethodName) prog_1_method_27_code (7 : Nat) (Option.some Jvm.ClassFile.FieldType.int)) ∈ lw_all := lw_g (lw_at lw_m5 104 rfl) rfl
theorem q1109 : (Jvm.Cond.instanceMethod ({ cls := "BinderyDesk", name := "stock", desc := "(II)I" } : Jvm.MethodName)) ∈ lw_all := lw_g (lw_at lw_m5 109 rfl) rfl
theorem q1110 : (Jvm.Cond.selects "BinderyDesk" ({ cls := "BinderyDesk", name := "stock", desc := "(II)I" } : Jvm.MethodName) ({ cls := "BinderyDesk", name := "stock", desc := "(II)I" } : Jvm.MethodName)) ∈ lw_all := lw_g (lw_at lw_m5 110 rfl) rfl
theorem q1111 : (Jvm.Cond.code ({ cls := "BinderyDesk", name := "stock", desc := "(II)I" } : Jvm.MethodName) prog_1_method_29_code (3 : Nat) (Option.some Jvm.ClassFile.FieldType.int)) ∈ lw_all := lw_g (lw_at lw_m5 111 rfl) rfl
theorem q1116 : (Jvm.Cond.instanceMethod ({ cls := "BinderyDesk", name := "platesNeeded", desc := "(I)I" } : Jvm.MethodName)) ∈ lw_all := lw_g (lw_at lw_m5 116 rfl) rfl
theorem q1117 : (Jvm.Cond.selects "BinderyDesk" ({ cls := "BinderyDesk", name := "platesNeeded", desc := "(I)I" } : Jvm.MethodName) ({ cls := "BinderyDesk", name := "platesNeeded", desc := "(I)I" } : Jvm.MethodName)) ∈ lw_all := lw_g (lw_at lw_m5 117 rfl) rfl
theorem q1118 : (Jvm.Cond.code ({ cls := "BinderyDesk", name := "platesNeeded", desc := "(I)I" } : Jvm.MethodName) prog_1_method_31_code (6 : Nat) (Option.some Jvm.ClassFile.FieldType.int)) ∈ lw_all := lw_g (lw_at lw_m5 118 rfl) rfl
theorem q1119 : (Jvm.Cond.methodLink "BinderyDesk" (231 : Nat) ({ cls := "java/util/TreeSet", name := "removeAll", desc := "(Ljava/util/Collection;)Z" } : Jvm.MethodName)) ∈ lw_all := lw_g (lw_at lw_m5 119 rfl) rfl
theorem q1324 : (Jvm.Cond.selects "BinderyDesk" ({ cls := "java/lang/Object", name := "equals", desc := "(Ljava/lang/Object;)Z" } : Jvm.MethodName) ({ cls := "java/lang/Object", name := "equals", desc := "(Ljava/lang/Object;)Z" } : Jvm.MethodName)) ∈ lw_all := lw_g (lw_at lw_m6 84 rfl) rfl
theorem q1401 : (Jvm.Cond.instanceMethod ({ cls := "BinderyDesk", name := "bind", desc := "(II)I" } : Jvm.MethodName)) ∈ lw_all := lw_g (lw_at lw_m6 161 rfl) rfl
theorem q1402 : (Jvm.Cond.selects "BinderyDesk" ({ cls := "BinderyDesk", name := "bind", desc := "(II)I" } : Jvm.MethodName) ({ cls := "BinderyDesk", name := "bind", desc := "(II)I" } : Jvm.MethodName)) ∈ lw_all := lw_g (lw_at lw_m6 162 rfl) rfl
theorem q1403 : (Jvm.Cond.code ({ cls := "BinderyDesk", name := "bind", desc := "(II)I" } : Jvm.MethodName) prog_1_method_32_code (5 : Nat) (Option.some Jvm.ClassFile.FieldType.int)) ∈ lw_all := lw_g (lw_at lw_m6 163 rfl) rfl
theorem q1404 : (Jvm.Cond.methodLink "BinderyDesk" (235 : Nat) ({ cls := "BinderyDesk$Job", name := "lacks", desc := "(I)I" } : Jvm.MethodName)) ∈ lw_all := lw_g (lw_at lw_m6 164 rfl) rfl
theorem q1410 : (Jvm.Cond.methodLink "BinderyDesk" (239 : Nat) ({ cls := "BinderyDesk$SheetPile", name := "take", desc := "(I)V" } : Jvm.MethodName)) ∈ lw_all := lw_g (lw_at lw_m6 170 rfl) rfl
theorem q1411 : (Jvm.Cond.classLink "BinderyDesk" (242 : Nat) "BinderyDesk$Lot") ∈ lw_all := lw_g (lw_at lw_m6 171 rfl) rfl
theorem q1413 : (Jvm.Cond.methodLink "BinderyDesk" (244 : Nat) ({ cls := "BinderyDesk$Lot", name := "<init>", desc := "(ILjava/util/List;)V" } : Jvm.MethodName)) ∈ lw_all := lw_g (lw_at lw_m6 173 rfl) rfl
theorem q1463 : (Jvm.Cond.fieldLinkNest "BinderyDesk" (254 : Nat) "BinderyDesk$Lot" "copies" "I" "BinderyDesk") ∈ lw_tbl := lw_at lw_m6 223 rfl
theorem q1465 : (Jvm.Cond.fieldLinkNest "BinderyDesk" (261 : Nat) "BinderyDesk$Lot" "contents" "Ljava/util/List;" "BinderyDesk") ∈ lw_tbl := lw_at lw_m6 225 rfl
theorem q1467 : (Jvm.Cond.fieldLinkNest "BinderyDesk" (251 : Nat) "BinderyDesk$Lot" "states" "[I" "BinderyDesk") ∈ lw_tbl := lw_at lw_m6 227 rfl
theorem q1479 : (Jvm.Cond.instanceMethod ({ cls := "BinderyDesk", name := "lacks", desc := "(II)I" } : Jvm.MethodName)) ∈ lw_all := lw_g (lw_at lw_m6 239 rfl) rfl
theorem q1480 : (Jvm.Cond.selects "BinderyDesk" ({ cls := "BinderyDesk", name := "lacks", desc := "(II)I" } : Jvm.MethodName) ({ cls := "BinderyDesk", name := "lacks", desc := "(II)I" } : Jvm.MethodName)) ∈ lw_all := lw_g (lw_at lw_m7 0 rfl) rfl
theorem q1481 : (Jvm.Cond.code ({ cls := "BinderyDesk", name := "lacks", desc := "(II)I" } : Jvm.MethodName) prog_1_method_33_code (4 : Nat) (Option.some Jvm.ClassFile.FieldType.int)) ∈ lw_all := lw_g (lw_at lw_m7 1 rfl) rfl
theorem q1486 : (Jvm.Cond.instanceMethod ({ cls := "BinderyDesk", name := "copies", desc := "(I)I" } : Jvm.MethodName)) ∈ lw_all := lw_g (lw_at lw_m7 6 rfl) rfl
theorem q1487 : (Jvm.Cond.selects "BinderyDesk" ({ cls := "BinderyDesk", name := "copies", desc := "(I)I" } : Jvm.MethodName) ({ cls := "BinderyDesk", name := "copies", desc := "(I)I" } : Jvm.MethodName)) ∈ lw_all := lw_g (lw_at lw_m7 7 rfl) rfl
theorem q1488 : (Jvm.Cond.code ({ cls := "BinderyDesk", name := "copies", desc := "(I)I" } : Jvm.MethodName) prog_1_method_37_code (2 : Nat) (Option.some Jvm.ClassFile.FieldType.int)) ∈ lw_all := lw_g (lw_at lw_m7 8 rfl) rfl
theorem q1489 : (Jvm.Cond.methodLink "BinderyDesk" (247 : Nat) ({ cls := "BinderyDesk", name := "lotNumbered", desc := "(I)LBinderyDesk$Lot;" } : Jvm.MethodName)) ∈ lw_all := lw_g (lw_at lw_m7 9 rfl) rfl
theorem q1490 : (Jvm.Cond.privateMethod ({ cls := "BinderyDesk", name := "lotNumbered", desc := "(I)LBinderyDesk$Lot;" } : Jvm.MethodName)) ∈ lw_tbl := lw_at lw_m7 10 rfl
theorem q1491 : (Jvm.Cond.instanceMethod ({ cls := "BinderyDesk", name := "lotNumbered", desc := "(I)LBinderyDesk$Lot;" } : Jvm.MethodName)) ∈ lw_all := lw_g (lw_at lw_m7 11 rfl) rfl
theorem q1492 : (Jvm.Cond.code ({ cls := "BinderyDesk", name := "lotNumbered", desc := "(I)LBinderyDesk$Lot;" } : Jvm.MethodName) prog_1_method_35_code (2 : Nat) (Option.some (Jvm.ClassFile.FieldType.object "BinderyDesk$Lot"))) ∈ lw_all := lw_g (lw_at lw_m7 12 rfl) rfl
theorem q1497 : (Jvm.Cond.instanceMethod ({ cls := "BinderyDesk", name := "stateIn", desc := "(II)I" } : Jvm.MethodName)) ∈ lw_all := lw_g (lw_at lw_m7 17 rfl) rfl
theorem q1498 : (Jvm.Cond.selects "BinderyDesk" ({ cls := "BinderyDesk", name := "stateIn", desc := "(II)I" } : Jvm.MethodName) ({ cls := "BinderyDesk", name := "stateIn", desc := "(II)I" } : Jvm.MethodName)) ∈ lw_all := lw_g (lw_at lw_m7 18 rfl) rfl
theorem q1499 : (Jvm.Cond.code ({ cls := "BinderyDesk", name := "stateIn", desc := "(II)I" } : Jvm.MethodName) prog_1_method_38_code (3 : Nat) (Option.some Jvm.ClassFile.FieldType.int)) ∈ lw_all := lw_g (lw_at lw_m7 19 rfl) rfl
theorem q1500 : (Jvm.Cond.methodLink "BinderyDesk" (257 : Nat) ({ cls := "BinderyDesk", name := "lotWithPage", desc := "(II)LBinderyDesk$Lot;" } : Jvm.MethodName)) ∈ lw_all := lw_g (lw_at lw_m7 20 rfl) rfl
theorem q1501 : (Jvm.Cond.privateMethod ({ cls := "BinderyDesk", name := "lotWithPage", desc := "(II)LBinderyDesk$Lot;" } : Jvm.MethodName)) ∈ lw_tbl := lw_at lw_m7 21 rfl
theorem q1502 : (Jvm.Cond.instanceMethod ({ cls := "BinderyDesk", name := "lotWithPage", desc := "(II)LBinderyDesk$Lot;" } : Jvm.MethodName)) ∈ lw_all := lw_g (lw_at lw_m7 22 rfl) rfl
theorem q1503 : (Jvm.Cond.code ({ cls := "BinderyDesk", name := "lotWithPage", desc := "(II)LBinderyDesk$Lot;" } : Jvm.MethodName) prog_1_method_36_code (4 : Nat) (Option.some (Jvm.ClassFile.FieldType.object "BinderyDesk$Lot"))) ∈ lw_all := lw_g (lw_at lw_m7 23 rfl) rfl
theorem q1508 : (Jvm.Cond.instanceMethod ({ cls := "BinderyDesk", name := "stateByReplay", desc := "(II)I" } : Jvm.MethodName)) ∈ lw_all := lw_g (lw_at lw_m7 28 rfl) rfl
theorem q1509 : (Jvm.Cond.selects "BinderyDesk" ({ cls := "BinderyDesk", name := "stateByReplay", desc := "(II)I" } : Jvm.MethodName) ({ cls := "BinderyDesk", name := "stateByReplay", desc := "(II)I" } : Jvm.MethodName)) ∈ lw_all := lw_g (lw_at lw_m7 29 rfl) rfl
theorem q1510 : (Jvm.Cond.code ({ cls := "BinderyDesk", name := "stateByReplay", desc := "(II)I" } : Jvm.MethodName) prog_1_method_39_code (9 : Nat) (Option.some Jvm.ClassFile.FieldType.int)) ∈ lw_all := lw_g (lw_at lw_m7 30 rfl) rfl
theorem q1511 : (Jvm.Cond.classLink "BinderyDesk" (262 : Nat) "BinderyDesk$Event") ∈ lw_all := lw_g (lw_at lw_m7 31 rfl) rfl
theorem q1516 : (Jvm.Cond.instanceMethod ({ cls := "BinderyDesk", name := "outdated", desc := "(I)I" } : Jvm.MethodName)) ∈ lw_all := lw_g (lw_at lw_m7 36 rfl) rfl
theorem q1517 : (Jvm.Cond.selects "BinderyDesk" ({ cls := "BinderyDesk", name := "outdated", desc := "(I)I" } : Jvm.MethodName) ({ cls := "BinderyDesk", name := "outdated", desc := "(I)I" } : Jvm.MethodName)) ∈ lw_all := lw_g (lw_at lw_m7 37 rfl) rfl
theorem q1518 : (Jvm.Cond.code ({ cls := "BinderyDesk", name := "outdated", desc := "(I)I" } : Jvm.MethodName) prog_1_method_40_code (6 : Nat) (Option.some Jvm.ClassFile.FieldType.int)) ∈ lw_all := lw_g (lw_at lw_m7 38 rfl) rfl
theorem q1519 : (Jvm.Cond.methodLink "BinderyDesk" (268 : Nat) ({ cls := "BinderyDesk$Lot", name := "isOutdated", desc := "(LBinderyDesk$Content;)Z" } : Jvm.MethodName)) ∈ lw_all := lw_g (lw_at lw_m7 39 rfl) rfl
theorem q1548 : (Jvm.Cond.instanceMethod ({ cls := "BinderyDesk", name := "wasteShare", desc := "()F" } : Jvm.MethodName)) ∈ lw_all := lw_g (lw_at lw_m7 68 rfl) rfl
theorem q1549 : (Jvm.Cond.selects "BinderyDesk" ({ cls := "BinderyDesk", name := "wasteShare", desc := "()F" } : Jvm.MethodName) ({ cls := "BinderyDesk", name := "wasteShare", desc := "()F" } : Jvm.MethodName)) ∈ lw_all := lw_g (lw_at lw_m7 69 rfl) rfl
theorem q1550 : (Jvm.Cond.code ({ cls := "BinderyDesk", name := "wasteShare", desc := "()F" } : Jvm.MethodName) prog_1_method_42_code (1 : Nat) (Option.some Jvm.ClassFile.FieldType.float)) ∈ lw_all := lw_g (lw_at lw_m7 70 rfl) rfl
theorem q1551 : (Jvm.Cond.classLink "BinderyDesk" (276 : Nat) "java/lang/ArithmeticException") ∈ lw_all := lw_g (lw_at lw_m7 71 rfl) rfl
theorem q1552 : (Jvm.Cond.methodLink "BinderyDesk" (278 : Nat) ({ cls := "java/lang/ArithmeticException", name := "<init>", desc := "()V" } : Jvm.MethodName)) ∈ lw_all := lw_g (lw_at lw_m7 72 rfl) rfl
theorem q1560 : (Jvm.Cond.instanceMethod ({ cls := "BinderyDesk", name := "meanMakeready", desc := "()D" } : Jvm.MethodName)) ∈ lw_all := lw_g (lw_at lw_m7 80 rfl) rfl
theorem q1561 : (Jvm.Cond.selects "BinderyDesk" ({ cls := "BinderyDesk", name := "meanMakeready", desc := "()D" } : Jvm.MethodName) ({ cls := "BinderyDesk", name := "meanMakeready", desc := "()D" } : Jvm.MethodName)) ∈ lw_all := lw_g (lw_at lw_m7 81 rfl) rfl
theorem q1562 : (Jvm.Cond.code ({ cls := "BinderyDesk", name := "meanMakeready", desc := "()D" } : Jvm.MethodName) prog_1_method_43_code (1 : Nat) (Option.some Jvm.ClassFile.FieldType.double)) ∈ lw_all := lw_g (lw_at lw_m7 82 rfl) rfl
theorem q1863 : (Jvm.Cond.castable "BinderyDesk" "java/lang/Object") ∈ lw_tbl := lw_at lw_m8 143 rfl
theorem q1907 : (Jvm.Cond.fieldLinkNest "BinderyDesk" (163 : Nat) "BinderyDesk$Binding" "places" "I" "BinderyDesk") ∈ lw_tbl := lw_at lw_m8 187 rfl
theorem in_X1 : ∀ w ∈ wsX10, w ∈ lw_all := lw_in wsX10 [193, 195, 197, 199, 201, 203, 205, 207, 209, 211, 213] (by decide +kernel) (by decide +kernel)
