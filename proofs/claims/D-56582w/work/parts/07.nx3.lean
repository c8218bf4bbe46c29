/-! BinderyDeskModel -/
set_option maxRecDepth 100000
def RX3 : String := "BinderyDeskModel"
def TX3 : u_T := fun k => match k with
  | 0 => ("BinderyDeskModel", "thrown", "I", false)
  | 1 => ("BinderyDeskModel", "contents", "I", false)
  | 2 => ("BinderyDeskModel", "jobs", "I", false)
  | 3 => ("BinderyDeskModel", "lots", "I", false)
  | 4 => ("BinderyDeskModel", "made", "I", false)
  | 5 => ("BinderyDeskModel", "prints", "I", false)
  | 6 => ("BinderyDeskModel", "minutes", "I", false)
  | 7 => ("BinderyDeskModel", "front", "I", false)
  | 8 => ("BinderyDeskModel", "back", "I", false)
  | 9 => ("BinderyDeskModel", "onPress", "I", false)
  | 10 => ("BinderyDeskModel", "wasted", "J", false)
  | 11 => ("BinderyDeskModel", "printed", "J", false)
  | 12 => ("BinderyDeskModel", "state", "[I", true)
  | 13 => ("BinderyDeskModel", "binding", "[I", true)
  | 14 => ("BinderyDeskModel", "pageCount", "[I", true)
  | 15 => ("BinderyDeskModel", "page", "[I", true)
  | 16 => ("BinderyDeskModel", "stock", "[I", true)
  | 17 => ("BinderyDeskModel", "isApproved", "[Z", true)
  | 18 => ("BinderyDeskModel", "plate", "[I", true)
  | 19 => ("BinderyDeskModel", "fronts", "[I", true)
  | 20 => ("BinderyDeskModel", "backs", "[I", true)
  | 21 => ("BinderyDeskModel", "best", "[I", true)
  | 22 => ("BinderyDeskModel", "lotJob", "[I", true)
  | 23 => ("BinderyDeskModel", "lotCopies", "[I", true)
  | 24 => ("BinderyDeskModel", "lotPages", "[I", true)
  | _ => ("BinderyDeskModel", "lotState", "[I", true)
def tyX3 : Nat → FieldType := fun k => match k with
  | 0 => .int
  | 1 => .int
  | 2 => .int
  | 3 => .int
  | 4 => .int
  | 5 => .int
  | 6 => .int
  | 7 => .int
  | 8 => .int
  | 9 => .int
  | 10 => .long
  | 11 => .long
  | 12 => .array .int
  | 13 => .array .int
  | 14 => .array .int
  | 15 => .array .int
  | 16 => .array .int
  | 17 => .array .boolean
  | 18 => .array .int
  | 19 => .array .int
  | 20 => .array .int
  | 21 => .array .int
  | 22 => .array .int
  | 23 => .array .int
  | 24 => .array .int
  | _ => .array .int
abbrev wsX30 : List Cond := u_ws RX3 TX3 26
set_option maxRecDepth 100000 in
theorem nmX3 : ∀ a, a < 26 → ∀ b, b < 26 → a ≠ b → (TX3 a).2.1 ≠ (TX3 b).2.1 := by decide +kernel
set_option maxRecDepth 100000 in
theorem tyX3_ok : ∀ k, k < 26 → parseFieldDescriptor (TX3 k).2.2.1 = some (tyX3 k) := by decide +kernel
abbrev cX3_init : ByteArray := prog_15_method_1_code
def yX3_init : MethodName := ⟨RX3, "<init>", "()V"⟩
def dkwX3_init_5 : List UInt8 := [177]
abbrev dktX3_init_5 : List UInt8 := dkwX3_init_5 ++ []
def dkwX3_init_4 : List UInt8 := [16, 100, 188, 10, 181, 0, 44, 42, 16, 100, 188, 10, 181, 0, 47, 42, 17, 6, 64, 188, 10, 181, 0, 50]
abbrev dktX3_init_4 : List UInt8 := dkwX3_init_4 ++ dktX3_init_5
def dkwX3_init_3 : List UInt8 := [188, 10, 181, 0, 35, 42, 17, 8, 0, 188, 10, 181, 0, 38, 42, 16, 100, 188, 10, 181, 0, 41, 42]
abbrev dktX3_init_3 : List UInt8 := dkwX3_init_3 ++ dktX3_init_4
def dkwX3_init_2 : List UInt8 := [181, 0, 25, 42, 17, 4, 76, 188, 10, 181, 0, 29, 42, 16, 8, 188, 10, 181, 0, 32, 42, 16, 8]
abbrev dktX3_init_2 : List UInt8 := dkwX3_init_2 ++ dktX3_init_3
def dkwX3_init_1 : List UInt8 := [181, 0, 16, 42, 16, 64, 188, 10, 181, 0, 19, 42, 16, 32, 188, 10, 181, 0, 22, 42, 16, 12, 188, 4]
abbrev dktX3_init_1 : List UInt8 := dkwX3_init_1 ++ dktX3_init_2
def dkwX3_init_0 : List UInt8 := [42, 183, 0, 1, 42, 16, 12, 188, 10, 181, 0, 7, 42, 7, 188, 10, 181, 0, 13, 42, 7, 188, 10]
abbrev dktX3_init_0 : List UInt8 := dkwX3_init_0 ++ dktX3_init_1
theorem dksX3_init_0 : cX3_init.data.toList.drop 0 = dktX3_init_0 := by decide +kernel
theorem dksX3_init_1 : cX3_init.data.toList.drop 23 = dktX3_init_1 := dk_seg dksX3_init_0 23 rfl rfl
theorem dksX3_init_2 : cX3_init.data.toList.drop 47 = dktX3_init_2 := dk_seg dksX3_init_1 24 rfl rfl
theorem dksX3_init_3 : cX3_init.data.toList.drop 70 = dktX3_init_3 := dk_seg dksX3_init_2 23 rfl rfl
theorem dksX3_init_4 : cX3_init.data.toList.drop 93 = dktX3_init_4 := dk_seg dksX3_init_3 23 rfl rfl
theorem dksX3_init_5 : cX3_init.data.toList.drop 117 = dktX3_init_5 := dk_seg dksX3_init_4 24 rfl rfl
theorem dX3_init_0 : decode cX3_init 0 = .ok (.aload_n 0, 1) := dk_42 (dk_at dksX3_init_0 0 rfl rfl)
theorem dX3_init_1 : decode cX3_init 1 = .ok (.invokespecial 1, 3) := dk_183 0 1 (dk_at dksX3_init_0 1 rfl rfl)
theorem dX3_init_4 : decode cX3_init 4 = .ok (.aload_n 0, 1) := dk_42 (dk_at dksX3_init_0 4 rfl rfl)
theorem dX3_init_5 : decode cX3_init 5 = .ok (.bipush 12, 2) := dk_16 12 (dk_at dksX3_init_0 5 rfl rfl)
theorem dX3_init_7 : decode cX3_init 7 = .ok (.newarray .int, 2) := dk_188_10 (dk_at dksX3_init_0 7 rfl rfl)
theorem dX3_init_9 : decode cX3_init 9 = .ok (.putfield 7, 3) := dk_181 0 7 (dk_at dksX3_init_0 9 rfl rfl)
theorem dX3_init_12 : decode cX3_init 12 = .ok (.aload_n 0, 1) := dk_42 (dk_at dksX3_init_0 12 rfl rfl)
theorem dX3_init_13 : decode cX3_init 13 = .ok (.iconst 4, 1) := dk_7 (dk_at dksX3_init_0 13 rfl rfl)
theorem dX3_init_14 : decode cX3_init 14 = .ok (.newarray .int, 2) := dk_188_10 (dk_at dksX3_init_0 14 rfl rfl)
theorem dX3_init_16 : decode cX3_init 16 = .ok (.putfield 13, 3) := dk_181 0 13 (dk_at dksX3_init_0 16 rfl rfl)
theorem dX3_init_19 : decode cX3_init 19 = .ok (.aload_n 0, 1) := dk_42 (dk_at dksX3_init_0 19 rfl rfl)
theorem dX3_init_20 : decode cX3_init 20 = .ok (.iconst 4, 1) := dk_7 (dk_at dksX3_init_0 20 rfl rfl)
theorem dX3_init_21 : decode cX3_init 21 = .ok (.newarray .int, 2) := dk_188_10 (dk_at dksX3_init_0 21 rfl rfl)
theorem dX3_init_23 : decode cX3_init 23 = .ok (.putfield 16, 3) := dk_181 0 16 (dk_at dksX3_init_1 0 rfl rfl)
theorem dX3_init_26 : decode cX3_init 26 = .ok (.aload_n 0, 1) := dk_42 (dk_at dksX3_init_1 3 rfl rfl)
theorem dX3_init_27 : decode cX3_init 27 = .ok (.bipush 64, 2) := dk_16 64 (dk_at dksX3_init_1 4 rfl rfl)
theorem dX3_init_29 : decode cX3_init 29 = .ok (.newarray .int, 2) := dk_188_10 (dk_at dksX3_init_1 6 rfl rfl)
theorem dX3_init_31 : decode cX3_init 31 = .ok (.putfield 19, 3) := dk_181 0 19 (dk_at dksX3_init_1 8 rfl rfl)
theorem dX3_init_34 : decode cX3_init 34 = .ok (.aload_n 0, 1) := dk_42 (dk_at dksX3_init_1 11 rfl rfl)
theorem dX3_init_35 : decode cX3_init 35 = .ok (.bipush 32, 2) := dk_16 32 (dk_at dksX3_init_1 12 rfl rfl)
theorem dX3_init_37 : decode cX3_init 37 = .ok (.newarray .int, 2) := dk_188_10 (dk_at dksX3_init_1 14 rfl rfl)
theorem dX3_init_39 : decode cX3_init 39 = .ok (.putfield 22, 3) := dk_181 0 22 (dk_at dksX3_init_1 16 rfl rfl)
theorem dX3_init_42 : decode cX3_init 42 = .ok (.aload_n 0, 1) := dk_42 (dk_at dksX3_init_1 19 rfl rfl)
theorem dX3_init_43 : decode cX3_init 43 = .ok (.bipush 12, 2) := dk_16 12 (dk_at dksX3_init_1 20 rfl rfl)
theorem dX3_init_45 : decode cX3_init 45 = .ok (.newarray .boolean, 2) := dk_188_4 (dk_at dksX3_init_1 22 rfl rfl)
theorem dX3_init_47 : decode cX3_init 47 = .ok (.putfield 25, 3) := dk_181 0 25 (dk_at dksX3_init_2 0 rfl rfl)
theorem dX3_init_50 : decode cX3_init 50 = .ok (.aload_n 0, 1) := dk_42 (dk_at dksX3_init_2 3 rfl rfl)
theorem dX3_init_51 : decode cX3_init 51 = .ok (.sipush 1100, 3) := dk_17 4 76 (dk_at dksX3_init_2 4 rfl rfl)
theorem dX3_init_54 : decode cX3_init 54 = .ok (.newarray .int, 2) := dk_188_10 (dk_at dksX3_init_2 7 rfl rfl)
theorem dX3_init_56 : decode cX3_init 56 = .ok (.putfield 29, 3) := dk_181 0 29 (dk_at dksX3_init_2 9 rfl rfl)
theorem dX3_init_59 : decode cX3_init 59 = .ok (.aload_n 0, 1) := dk_42 (dk_at dksX3_init_2 12 rfl rfl)
theorem dX3_init_60 : decode cX3_init 60 = .ok (.bipush 8, 2) := dk_16 8 (dk_at dksX3_init_2 13 rfl rfl)
theorem dX3_init_62 : decode cX3_init 62 = .ok (.newarray .int, 2) := dk_188_10 (dk_at dksX3_init_2 15 rfl rfl)
theorem dX3_init_64 : decode cX3_init 64 = .ok (.putfield 32, 3) := dk_181 0 32 (dk_at dksX3_init_2 17 rfl rfl)
theorem dX3_init_67 : decode cX3_init 67 = .ok (.aload_n 0, 1) := dk_42 (dk_at dksX3_init_2 20 rfl rfl)
theorem dX3_init_68 : decode cX3_init 68 = .ok (.bipush 8, 2) := dk_16 8 (dk_at dksX3_init_2 21 rfl rfl)
theorem dX3_init_70 : decode cX3_init 70 = .ok (.newarray .int, 2) := dk_188_10 (dk_at dksX3_init_3 0 rfl rfl)
theorem dX3_init_72 : decode cX3_init 72 = .ok (.putfield 35, 3) := dk_181 0 35 (dk_at dksX3_init_3 2 rfl rfl)
theorem dX3_init_75 : decode cX3_init 75 = .ok (.aload_n 0, 1) := dk_42 (dk_at dksX3_init_3 5 rfl rfl)
theorem dX3_init_76 : decode cX3_init 76 = .ok (.sipush 2048, 3) := dk_17 8 0 (dk_at dksX3_init_3 6 rfl rfl)
theorem dX3_init_79 : decode cX3_init 79 = .ok (.newarray .int, 2) := dk_188_10 (dk_at dksX3_init_3 9 rfl rfl)
theorem dX3_init_81 : decode cX3_init 81 = .ok (.putfield 38, 3) := dk_181 0 38 (dk_at dksX3_init_3 11 rfl rfl)
theorem dX3_init_84 : decode cX3_init 84 = .ok (.aload_n 0, 1) := dk_42 (dk_at dksX3_init_3 14 rfl rfl)
theorem dX3_init_85 : decode cX3_init 85 = .ok (.bipush 100, 2) := dk_16 100 (dk_at dksX3_init_3 15 rfl rfl)
theorem dX3_init_87 : decode cX3_init 87 = .ok (.newarray .int, 2) := dk_188_10 (dk_at dksX3_init_3 17 rfl rfl)
theorem dX3_init_89 : decode cX3_init 89 = .ok (.putfield 41, 3) := dk_181 0 41 (dk_at dksX3_init_3 19 rfl rfl)
theorem dX3_init_92 : decode cX3_init 92 = .ok (.aload_n 0, 1) := dk_42 (dk_at dksX3_init_3 22 rfl rfl)
theorem dX3_init_93 : decode cX3_init 93 = .ok (.bipush 100, 2) := dk_16 100 (dk_at dksX3_init_4 0 rfl rfl)
theorem dX3_init_95 : decode cX3_init 95 = .ok (.newarray .int, 2) := dk_188_10 (dk_at dksX3_init_4 2 rfl rfl)
theorem dX3_init_97 : decode cX3_init 97 = .ok (.putfield 44, 3) := dk_181 0 44 (dk_at dksX3_init_4 4 rfl rfl)
theorem dX3_init_100 : decode cX3_init 100 = .ok (.aload_n 0, 1) := dk_42 (dk_at dksX3_init_4 7 rfl rfl)
theorem dX3_init_101 : decode cX3_init 101 = .ok (.bipush 100, 2) := dk_16 100 (dk_at dksX3_init_4 8 rfl rfl)
theorem dX3_init_103 : decode cX3_init 103 = .ok (.newarray .int, 2) := dk_188_10 (dk_at dksX3_init_4 10 rfl rfl)
theorem dX3_init_105 : decode cX3_init 105 = .ok (.putfield 47, 3) := dk_181 0 47 (dk_at dksX3_init_4 12 rfl rfl)
theorem dX3_init_108 : decode cX3_init 108 = .ok (.aload_n 0, 1) := dk_42 (dk_at dksX3_init_4 15 rfl rfl)
theorem dX3_init_109 : decode cX3_init 109 = .ok (.sipush 1600, 3) := dk_17 6 64 (dk_at dksX3_init_4 16 rfl rfl)
theorem dX3_init_112 : decode cX3_init 112 = .ok (.newarray .int, 2) := dk_188_10 (dk_at dksX3_init_4 19 rfl rfl)
theorem dX3_init_114 : decode cX3_init 114 = .ok (.putfield 50, 3) := dk_181 0 50 (dk_at dksX3_init_4 21 rfl rfl)
theorem dX3_init_117 : decode cX3_init 117 = .ok (.return_, 1) := dk_177 (dk_at dksX3_init_5 0 rfl rfl)
abbrev cX3_thrown : ByteArray := prog_15_method_2_code
def yX3_thrown : MethodName := ⟨RX3, "thrown", "()I"⟩
theorem dX3_thrown_0 : decode cX3_thrown 0 = .ok (.aload_n 0, 1) := by decide +kernel
theorem dX3_thrown_1 : decode cX3_thrown 1 = .ok (.getfield 53, 3) := by decide +kernel
theorem dX3_thrown_4 : decode cX3_thrown 4 = .ok (.ireturn, 1) := by decide +kernel
abbrev cX3_addContent : ByteArray := prog_15_method_19_code
def yX3_addContent : MethodName := ⟨RX3, "addContent", "()I"⟩
def dkwX3_addContent_1 : List UInt8 := [180, 0, 57, 4, 96, 181, 0, 57, 42, 180, 0, 57, 4, 100, 172]
abbrev dktX3_addContent_1 : List UInt8 := dkwX3_addContent_1 ++ []
def dkwX3_addContent_0 : List UInt8 := [42, 180, 0, 57, 16, 12, 160, 0, 9, 42, 4, 182, 0, 101, 172, 42, 3, 181, 0, 53, 42, 89]
abbrev dktX3_addContent_0 : List UInt8 := dkwX3_addContent_0 ++ dktX3_addContent_1
theorem dksX3_addContent_0 : cX3_addContent.data.toList.drop 0 = dktX3_addContent_0 := by decide +kernel
theorem dksX3_addContent_1 : cX3_addContent.data.toList.drop 22 = dktX3_addContent_1 := dk_seg dksX3_addContent_0 22 rfl rfl
theorem dX3_addContent_0 : decode cX3_addContent 0 = .ok (.aload_n 0, 1) := dk_42 (dk_at dksX3_addContent_0 0 rfl rfl)
theorem dX3_addContent_1 : decode cX3_addContent 1 = .ok (.getfield 57, 3) := dk_180 0 57 (dk_at dksX3_addContent_0 1 rfl rfl)
theorem dX3_addContent_4 : decode cX3_addContent 4 = .ok (.bipush 12, 2) := dk_16 12 (dk_at dksX3_addContent_0 4 rfl rfl)
theorem dX3_addContent_6 : decode cX3_addContent 6 = .ok (.if_icmp .ne 9, 3) := dk_160 0 9 (dk_at dksX3_addContent_0 6 rfl rfl)
theorem dX3_addContent_9 : decode cX3_addContent 9 = .ok (.aload_n 0, 1) := dk_42 (dk_at dksX3_addContent_0 9 rfl rfl)
theorem dX3_addContent_10 : decode cX3_addContent 10 = .ok (.iconst 1, 1) := dk_4 (dk_at dksX3_addContent_0 10 rfl rfl)
theorem dX3_addContent_11 : decode cX3_addContent 11 = .ok (.invokevirtual 101, 3) := dk_182 0 101 (dk_at dksX3_addContent_0 11 rfl rfl)
theorem dX3_addContent_14 : decode cX3_addContent 14 = .ok (.ireturn, 1) := dk_172 (dk_at dksX3_addContent_0 14 rfl rfl)
theorem dX3_addContent_15 : decode cX3_addContent 15 = .ok (.aload_n 0, 1) := dk_42 (dk_at dksX3_addContent_0 15 rfl rfl)
theorem dX3_addContent_16 : decode cX3_addContent 16 = .ok (.iconst 0, 1) := dk_3 (dk_at dksX3_addContent_0 16 rfl rfl)
theorem dX3_addContent_17 : decode cX3_addContent 17 = .ok (.putfield 53, 3) := dk_181 0 53 (dk_at dksX3_addContent_0 17 rfl rfl)
theorem dX3_addContent_20 : decode cX3_addContent 20 = .ok (.aload_n 0, 1) := dk_42 (dk_at dksX3_addContent_0 20 rfl rfl)
theorem dX3_addContent_21 : decode cX3_addContent 21 = .ok (.dup, 1) := dk_89 (dk_at dksX3_addContent_0 21 rfl rfl)
theorem dX3_addContent_22 : decode cX3_addContent 22 = .ok (.getfield 57, 3) := dk_180 0 57 (dk_at dksX3_addContent_1 0 rfl rfl)
theorem dX3_addContent_25 : decode cX3_addContent 25 = .ok (.iconst 1, 1) := dk_4 (dk_at dksX3_addContent_1 3 rfl rfl)
theorem dX3_addContent_26 : decode cX3_addContent 26 = .ok (.iadd, 1) := dk_96 (dk_at dksX3_addContent_1 4 rfl rfl)
theorem dX3_addContent_27 : decode cX3_addContent 27 = .ok (.putfield 57, 3) := dk_181 0 57 (dk_at dksX3_addContent_1 5 rfl rfl)
theorem dX3_addContent_30 : decode cX3_addContent 30 = .ok (.aload_n 0, 1) := dk_42 (dk_at dksX3_addContent_1 8 rfl rfl)
theorem dX3_addContent_31 : decode cX3_addContent 31 = .ok (.getfield 57, 3) := dk_180 0 57 (dk_at dksX3_addContent_1 9 rfl rfl)
theorem dX3_addContent_34 : decode cX3_addContent 34 = .ok (.iconst 1, 1) := dk_4 (dk_at dksX3_addContent_1 12 rfl rfl)
theorem dX3_addContent_35 : decode cX3_addContent 35 = .ok (.isub, 1) := dk_100 (dk_at dksX3_addContent_1 13 rfl rfl)
theorem dX3_addContent_36 : decode cX3_addContent 36 = .ok (.ireturn, 1) := dk_172 (dk_at dksX3_addContent_1 14 rfl rfl)
abbrev cX3_fails : ByteArray := prog_15_method_3_code
def yX3_fails : MethodName := ⟨RX3, "fails", "(I)I"⟩
def dkwX3_fails_0 : List UInt8 := [42, 27, 181, 0, 53, 3, 172]
abbrev dktX3_fails_0 : List UInt8 := dkwX3_fails_0 ++ []
theorem dksX3_fails_0 : cX3_fails.data.toList.drop 0 = dktX3_fails_0 := by decide +kernel
theorem dX3_fails_0 : decode cX3_fails 0 = .ok (.aload_n 0, 1) := dk_42 (dk_at dksX3_fails_0 0 rfl rfl)
theorem dX3_fails_1 : decode cX3_fails 1 = .ok (.iload_n 1, 1) := dk_27 (dk_at dksX3_fails_0 1 rfl rfl)
theorem dX3_fails_2 : decode cX3_fails 2 = .ok (.putfield 53, 3) := dk_181 0 53 (dk_at dksX3_fails_0 2 rfl rfl)
theorem dX3_fails_5 : decode cX3_fails 5 = .ok (.iconst 0, 1) := dk_3 (dk_at dksX3_fails_0 5 rfl rfl)
theorem dX3_fails_6 : decode cX3_fails 6 = .ok (.ireturn, 1) := dk_172 (dk_at dksX3_fails_0 6 rfl rfl)
abbrev cX3_approve : ByteArray := prog_15_method_20_code
def yX3_approve : MethodName := ⟨RX3, "approve", "(I)Z"⟩
def dkwX3_approve_1 : List UInt8 := [28, 172]
abbrev dktX3_approve_1 : List UInt8 := dkwX3_approve_1 ++ []
def dkwX3_approve_0 : List UInt8 := [42, 27, 182, 0, 104, 154, 0, 5, 3, 172, 42, 180, 0, 25, 27, 51, 61, 42, 180, 0, 25, 27, 4, 84]
abbrev dktX3_approve_0 : List UInt8 := dkwX3_approve_0 ++ dktX3_approve_1
theorem dksX3_approve_0 : cX3_approve.data.toList.drop 0 = dktX3_approve_0 := by decide +kernel
theorem dksX3_approve_1 : cX3_approve.data.toList.drop 24 = dktX3_approve_1 := dk_seg dksX3_approve_0 24 rfl rfl
theorem dX3_approve_0 : decode cX3_approve 0 = .ok (.aload_n 0, 1) := dk_42 (dk_at dksX3_approve_0 0 rfl rfl)
theorem dX3_approve_1 : decode cX3_approve 1 = .ok (.iload_n 1, 1) := dk_27 (dk_at dksX3_approve_0 1 rfl rfl)
theorem dX3_approve_2 : decode cX3_approve 2 = .ok (.invokevirtual 104, 3) := dk_182 0 104 (dk_at dksX3_approve_0 2 rfl rfl)
theorem dX3_approve_5 : decode cX3_approve 5 = .ok (.ifCond .ne 5, 3) := dk_154 0 5 (dk_at dksX3_approve_0 5 rfl rfl)
theorem dX3_approve_8 : decode cX3_approve 8 = .ok (.iconst 0, 1) := dk_3 (dk_at dksX3_approve_0 8 rfl rfl)
theorem dX3_approve_9 : decode cX3_approve 9 = .ok (.ireturn, 1) := dk_172 (dk_at dksX3_approve_0 9 rfl rfl)
theorem dX3_approve_10 : decode cX3_approve 10 = .ok (.aload_n 0, 1) := dk_42 (dk_at dksX3_approve_0 10 rfl rfl)
theorem dX3_approve_11 : decode cX3_approve 11 = .ok (.getfield 25, 3) := dk_180 0 25 (dk_at dksX3_approve_0 11 rfl rfl)
theorem dX3_approve_14 : decode cX3_approve 14 = .ok (.iload_n 1, 1) := dk_27 (dk_at dksX3_approve_0 14 rfl rfl)
theorem dX3_approve_15 : decode cX3_approve 15 = .ok (.baload, 1) := dk_51 (dk_at dksX3_approve_0 15 rfl rfl)
theorem dX3_approve_16 : decode cX3_approve 16 = .ok (.istore_n 2, 1) := dk_61 (dk_at dksX3_approve_0 16 rfl rfl)
theorem dX3_approve_17 : decode cX3_approve 17 = .ok (.aload_n 0, 1) := dk_42 (dk_at dksX3_approve_0 17 rfl rfl)
theorem dX3_approve_18 : decode cX3_approve 18 = .ok (.getfield 25, 3) := dk_180 0 25 (dk_at dksX3_approve_0 18 rfl rfl)
theorem dX3_approve_21 : decode cX3_approve 21 = .ok (.iload_n 1, 1) := dk_27 (dk_at dksX3_approve_0 21 rfl rfl)
theorem dX3_approve_22 : decode cX3_approve 22 = .ok (.iconst 1, 1) := dk_4 (dk_at dksX3_approve_0 22 rfl rfl)
theorem dX3_approve_23 : decode cX3_approve 23 = .ok (.bastore, 1) := dk_84 (dk_at dksX3_approve_0 23 rfl rfl)
theorem dX3_approve_24 : decode cX3_approve 24 = .ok (.iload_n 2, 1) := dk_28 (dk_at dksX3_approve_1 0 rfl rfl)
theorem dX3_approve_25 : decode cX3_approve 25 = .ok (.ireturn, 1) := dk_172 (dk_at dksX3_approve_1 1 rfl rfl)
abbrev cX3_isContent : ByteArray := prog_15_method_5_code
def yX3_isContent : MethodName := ⟨RX3, "isContent", "(I)Z"⟩
def dkwX3_isContent_1 : List UInt8 := [180, 0, 53, 154, 0, 7, 4, 167, 0, 4, 3, 172]
abbrev dktX3_isContent_1 : List UInt8 := dkwX3_isContent_1 ++ []
def dkwX3_isContent_0 : List UInt8 := [42, 27, 3, 42, 180, 0, 57, 4, 100, 184, 0, 60, 153, 0, 7, 3, 167, 0, 4, 4, 181, 0, 53, 42]
abbrev dktX3_isContent_0 : List UInt8 := dkwX3_isContent_0 ++ dktX3_isContent_1
theorem dksX3_isContent_0 : cX3_isContent.data.toList.drop 0 = dktX3_isContent_0 := by decide +kernel
theorem dksX3_isContent_1 : cX3_isContent.data.toList.drop 24 = dktX3_isContent_1 := dk_seg dksX3_isContent_0 24 rfl rfl
theorem dX3_isContent_0 : decode cX3_isContent 0 = .ok (.aload_n 0, 1) := dk_42 (dk_at dksX3_isContent_0 0 rfl rfl)
theorem dX3_isContent_1 : decode cX3_isContent 1 = .ok (.iload_n 1, 1) := dk_27 (dk_at dksX3_isContent_0 1 rfl rfl)
theorem dX3_isContent_2 : decode cX3_isContent 2 = .ok (.iconst 0, 1) := dk_3 (dk_at dksX3_isContent_0 2 rfl rfl)
theorem dX3_isContent_3 : decode cX3_isContent 3 = .ok (.aload_n 0, 1) := dk_42 (dk_at dksX3_isContent_0 3 rfl rfl)
theorem dX3_isContent_4 : decode cX3_isContent 4 = .ok (.getfield 57, 3) := dk_180 0 57 (dk_at dksX3_isContent_0 4 rfl rfl)
theorem dX3_isContent_7 : decode cX3_isContent 7 = .ok (.iconst 1, 1) := dk_4 (dk_at dksX3_isContent_0 7 rfl rfl)
theorem dX3_isContent_8 : decode cX3_isContent 8 = .ok (.isub, 1) := dk_100 (dk_at dksX3_isContent_0 8 rfl rfl)
theorem dX3_isContent_9 : decode cX3_isContent 9 = .ok (.invokestatic 60, 3) := dk_184 0 60 (dk_at dksX3_isContent_0 9 rfl rfl)
theorem dX3_isContent_12 : decode cX3_isContent 12 = .ok (.ifCond .eq 7, 3) := dk_153 0 7 (dk_at dksX3_isContent_0 12 rfl rfl)
theorem dX3_isContent_15 : decode cX3_isContent 15 = .ok (.iconst 0, 1) := dk_3 (dk_at dksX3_isContent_0 15 rfl rfl)
theorem dX3_isContent_16 : decode cX3_isContent 16 = .ok (.goto 4, 3) := dk_167 0 4 (dk_at dksX3_isContent_0 16 rfl rfl)
theorem dX3_isContent_19 : decode cX3_isContent 19 = .ok (.iconst 1, 1) := dk_4 (dk_at dksX3_isContent_0 19 rfl rfl)
theorem dX3_isContent_20 : decode cX3_isContent 20 = .ok (.putfield 53, 3) := dk_181 0 53 (dk_at dksX3_isContent_0 20 rfl rfl)
theorem dX3_isContent_23 : decode cX3_isContent 23 = .ok (.aload_n 0, 1) := dk_42 (dk_at dksX3_isContent_0 23 rfl rfl)
theorem dX3_isContent_24 : decode cX3_isContent 24 = .ok (.getfield 53, 3) := dk_180 0 53 (dk_at dksX3_isContent_1 0 rfl rfl)
theorem dX3_isContent_27 : decode cX3_isContent 27 = .ok (.ifCond .ne 7, 3) := dk_154 0 7 (dk_at dksX3_isContent_1 3 rfl rfl)
theorem dX3_isContent_30 : decode cX3_isContent 30 = .ok (.iconst 1, 1) := dk_4 (dk_at dksX3_isContent_1 6 rfl rfl)
theorem dX3_isContent_31 : decode cX3_isContent 31 = .ok (.goto 4, 3) := dk_167 0 4 (dk_at dksX3_isContent_1 7 rfl rfl)
theorem dX3_isContent_34 : decode cX3_isContent 34 = .ok (.iconst 0, 1) := dk_3 (dk_at dksX3_isContent_1 10 rfl rfl)
theorem dX3_isContent_35 : decode cX3_isContent 35 = .ok (.ireturn, 1) := dk_172 (dk_at dksX3_isContent_1 11 rfl rfl)
abbrev cX3_in : ByteArray := prog_15_method_4_code
def yX3_in : MethodName := ⟨RX3, "in", "(III)Z"⟩
def dkwX3_in_0 : List UInt8 := [26, 27, 161, 0, 12, 26, 28, 163, 0, 7, 4, 167, 0, 4, 3, 172]
abbrev dktX3_in_0 : List UInt8 := dkwX3_in_0 ++ []
theorem dksX3_in_0 : cX3_in.data.toList.drop 0 = dktX3_in_0 := by decide +kernel
theorem dX3_in_0 : decode cX3_in 0 = .ok (.iload_n 0, 1) := dk_26 (dk_at dksX3_in_0 0 rfl rfl)
theorem dX3_in_1 : decode cX3_in 1 = .ok (.iload_n 1, 1) := dk_27 (dk_at dksX3_in_0 1 rfl rfl)
theorem dX3_in_2 : decode cX3_in 2 = .ok (.if_icmp .lt 12, 3) := dk_161 0 12 (dk_at dksX3_in_0 2 rfl rfl)
theorem dX3_in_5 : decode cX3_in 5 = .ok (.iload_n 0, 1) := dk_26 (dk_at dksX3_in_0 5 rfl rfl)
theorem dX3_in_6 : decode cX3_in 6 = .ok (.iload_n 2, 1) := dk_28 (dk_at dksX3_in_0 6 rfl rfl)
theorem dX3_in_7 : decode cX3_in 7 = .ok (.if_icmp .gt 7, 3) := dk_163 0 7 (dk_at dksX3_in_0 7 rfl rfl)
theorem dX3_in_10 : decode cX3_in 10 = .ok (.iconst 1, 1) := dk_4 (dk_at dksX3_in_0 10 rfl rfl)
theorem dX3_in_11 : decode cX3_in 11 = .ok (.goto 4, 3) := dk_167 0 4 (dk_at dksX3_in_0 11 rfl rfl)
theorem dX3_in_14 : decode cX3_in 14 = .ok (.iconst 0, 1) := dk_3 (dk_at dksX3_in_0 14 rfl rfl)
theorem dX3_in_15 : decode cX3_in 15 = .ok (.ireturn, 1) := dk_172 (dk_at dksX3_in_0 15 rfl rfl)
abbrev cX3_correct : ByteArray := prog_15_method_21_code
def yX3_correct : MethodName := ⟨RX3, "correct", "(I)I"⟩
def dkwX3_correct_4 : List UInt8 := [182, 0, 110, 167, 0, 4, 3, 96, 61, 132, 4, 1, 167, 255, 210, 132, 3, 1, 167, 255, 193, 28, 172]
abbrev dktX3_correct_4 : List UInt8 := dkwX3_correct_4 ++ []
def dkwX3_correct_3 : List UInt8 := [182, 0, 78, 162, 0, 34, 28, 42, 29, 21, 4, 27, 182, 0, 107, 153, 0, 13, 42, 29, 21, 4]
abbrev dktX3_correct_3 : List UInt8 := dkwX3_correct_3 ++ dktX3_correct_4
def dkwX3_correct_2 : List UInt8 := [62, 29, 42, 180, 0, 68, 162, 0, 61, 3, 54, 4, 42, 29, 182, 0, 71, 153, 0, 44, 21, 4, 42, 29]
abbrev dktX3_correct_2 : List UInt8 := dkwX3_correct_2 ++ dktX3_correct_3
def dkwX3_correct_1 : List UInt8 := [182, 0, 101, 172, 42, 180, 0, 7, 27, 92, 46, 4, 96, 79, 42, 180, 0, 25, 27, 3, 84, 3, 61, 3]
abbrev dktX3_correct_1 : List UInt8 := dkwX3_correct_1 ++ dktX3_correct_2
def dkwX3_correct_0 : List UInt8 := [42, 27, 182, 0, 104, 154, 0, 5, 3, 172, 42, 180, 0, 7, 27, 46, 16, 99, 160, 0, 9, 42, 5]
abbrev dktX3_correct_0 : List UInt8 := dkwX3_correct_0 ++ dktX3_correct_1
theorem dksX3_correct_0 : cX3_correct.data.toList.drop 0 = dktX3_correct_0 := by decide +kernel
theorem dksX3_correct_1 : cX3_correct.data.toList.drop 23 = dktX3_correct_1 := dk_seg dksX3_correct_0 23 rfl rfl
theorem dksX3_correct_2 : cX3_correct.data.toList.drop 47 = dktX3_correct_2 := dk_seg dksX3_correct_1 24 rfl rfl
theorem dksX3_correct_3 : cX3_correct.data.toList.drop 71 = dktX3_correct_3 := dk_seg dksX3_correct_2 24 rfl rfl
theorem dksX3_correct_4 : cX3_correct.data.toList.drop 93 = dktX3_correct_4 := dk_seg dksX3_correct_3 22 rfl rfl
theorem dX3_correct_0 : decode cX3_correct 0 = .ok (.aload_n 0, 1) := dk_42 (dk_at dksX3_correct_0 0 rfl rfl)
theorem dX3_correct_1 : decode cX3_correct 1 = .ok (.iload_n 1, 1) := dk_27 (dk_at dksX3_correct_0 1 rfl rfl)
theorem dX3_correct_2 : decode cX3_correct 2 = .ok (.invokevirtual 104, 3) := dk_182 0 104 (dk_at dksX3_correct_0 2 rfl rfl)
theorem dX3_correct_5 : decode cX3_correct 5 = .ok (.ifCond .ne 5, 3) := dk_154 0 5 (dk_at dksX3_correct_0 5 rfl rfl)
theorem dX3_correct_8 : decode cX3_correct 8 = .ok (.iconst 0, 1) := dk_3 (dk_at dksX3_correct_0 8 rfl rfl)
theorem dX3_correct_9 : decode cX3_correct 9 = .ok (.ireturn, 1) := dk_172 (dk_at dksX3_correct_0 9 rfl rfl)
theorem dX3_correct_10 : decode cX3_correct 10 = .ok (.aload_n 0, 1) := dk_42 (dk_at dksX3_correct_0 10 rfl rfl)
theorem dX3_correct_11 : decode cX3_correct 11 = .ok (.getfield 7, 3) := dk_180 0 7 (dk_at dksX3_correct_0 11 rfl rfl)
theorem dX3_correct_14 : decode cX3_correct 14 = .ok (.iload_n 1, 1) := dk_27 (dk_at dksX3_correct_0 14 rfl rfl)
theorem dX3_correct_15 : decode cX3_correct 15 = .ok (.iaload, 1) := dk_46 (dk_at dksX3_correct_0 15 rfl rfl)
theorem dX3_correct_16 : decode cX3_correct 16 = .ok (.bipush 99, 2) := dk_16 99 (dk_at dksX3_correct_0 16 rfl rfl)
theorem dX3_correct_18 : decode cX3_correct 18 = .ok (.if_icmp .ne 9, 3) := dk_160 0 9 (dk_at dksX3_correct_0 18 rfl rfl)
theorem dX3_correct_21 : decode cX3_correct 21 = .ok (.aload_n 0, 1) := dk_42 (dk_at dksX3_correct_0 21 rfl rfl)
theorem dX3_correct_22 : decode cX3_correct 22 = .ok (.iconst 2, 1) := dk_5 (dk_at dksX3_correct_0 22 rfl rfl)
theorem dX3_correct_23 : decode cX3_correct 23 = .ok (.invokevirtual 101, 3) := dk_182 0 101 (dk_at dksX3_correct_1 0 rfl rfl)
theorem dX3_correct_26 : decode cX3_correct 26 = .ok (.ireturn, 1) := dk_172 (dk_at dksX3_correct_1 3 rfl rfl)
theorem dX3_correct_27 : decode cX3_correct 27 = .ok (.aload_n 0, 1) := dk_42 (dk_at dksX3_correct_1 4 rfl rfl)
theorem dX3_correct_28 : decode cX3_correct 28 = .ok (.getfield 7, 3) := dk_180 0 7 (dk_at dksX3_correct_1 5 rfl rfl)
theorem dX3_correct_31 : decode cX3_correct 31 = .ok (.iload_n 1, 1) := dk_27 (dk_at dksX3_correct_1 8 rfl rfl)
theorem dX3_correct_32 : decode cX3_correct 32 = .ok (.dup2, 1) := dk_92 (dk_at dksX3_correct_1 9 rfl rfl)
theorem dX3_correct_33 : decode cX3_correct 33 = .ok (.iaload, 1) := dk_46 (dk_at dksX3_correct_1 10 rfl rfl)
theorem dX3_correct_34 : decode cX3_correct 34 = .ok (.iconst 1, 1) := dk_4 (dk_at dksX3_correct_1 11 rfl rfl)
theorem dX3_correct_35 : decode cX3_correct 35 = .ok (.iadd, 1) := dk_96 (dk_at dksX3_correct_1 12 rfl rfl)
theorem dX3_correct_36 : decode cX3_correct 36 = .ok (.iastore, 1) := dk_79 (dk_at dksX3_correct_1 13 rfl rfl)
theorem dX3_correct_37 : decode cX3_correct 37 = .ok (.aload_n 0, 1) := dk_42 (dk_at dksX3_correct_1 14 rfl rfl)
theorem dX3_correct_38 : decode cX3_correct 38 = .ok (.getfield 25, 3) := dk_180 0 25 (dk_at dksX3_correct_1 15 rfl rfl)
theorem dX3_correct_41 : decode cX3_correct 41 = .ok (.iload_n 1, 1) := dk_27 (dk_at dksX3_correct_1 18 rfl rfl)
theorem dX3_correct_42 : decode cX3_correct 42 = .ok (.iconst 0, 1) := dk_3 (dk_at dksX3_correct_1 19 rfl rfl)
theorem dX3_correct_43 : decode cX3_correct 43 = .ok (.bastore, 1) := dk_84 (dk_at dksX3_correct_1 20 rfl rfl)
theorem dX3_correct_44 : decode cX3_correct 44 = .ok (.iconst 0, 1) := dk_3 (dk_at dksX3_correct_1 21 rfl rfl)
theorem dX3_correct_45 : decode cX3_correct 45 = .ok (.istore_n 2, 1) := dk_61 (dk_at dksX3_correct_1 22 rfl rfl)
theorem dX3_correct_46 : decode cX3_correct 46 = .ok (.iconst 0, 1) := dk_3 (dk_at dksX3_correct_1 23 rfl rfl)
theorem dX3_correct_47 : decode cX3_correct 47 = .ok (.istore_n 3, 1) := dk_62 (dk_at dksX3_correct_2 0 rfl rfl)
theorem dX3_correct_48 : decode cX3_correct 48 = .ok (.iload_n 3, 1) := dk_29 (dk_at dksX3_correct_2 1 rfl rfl)
theorem dX3_correct_49 : decode cX3_correct 49 = .ok (.aload_n 0, 1) := dk_42 (dk_at dksX3_correct_2 2 rfl rfl)
theorem dX3_correct_50 : decode cX3_correct 50 = .ok (.getfield 68, 3) := dk_180 0 68 (dk_at dksX3_correct_2 3 rfl rfl)
theorem dX3_correct_53 : decode cX3_correct 53 = .ok (.if_icmp .ge 61, 3) := dk_162 0 61 (dk_at dksX3_correct_2 6 rfl rfl)
theorem dX3_correct_56 : decode cX3_correct 56 = .ok (.iconst 0, 1) := dk_3 (dk_at dksX3_correct_2 9 rfl rfl)
theorem dX3_correct_57 : decode cX3_correct 57 = .ok (.istore 4, 2) := dk_54 4 (dk_at dksX3_correct_2 10 rfl rfl)
theorem dX3_correct_59 : decode cX3_correct 59 = .ok (.aload_n 0, 1) := dk_42 (dk_at dksX3_correct_2 12 rfl rfl)
theorem dX3_correct_60 : decode cX3_correct 60 = .ok (.iload_n 3, 1) := dk_29 (dk_at dksX3_correct_2 13 rfl rfl)
theorem dX3_correct_61 : decode cX3_correct 61 = .ok (.invokevirtual 71, 3) := dk_182 0 71 (dk_at dksX3_correct_2 14 rfl rfl)
theorem dX3_correct_64 : decode cX3_correct 64 = .ok (.ifCond .eq 44, 3) := dk_153 0 44 (dk_at dksX3_correct_2 17 rfl rfl)
theorem dX3_correct_67 : decode cX3_correct 67 = .ok (.iload 4, 2) := dk_21 4 (dk_at dksX3_correct_2 20 rfl rfl)
theorem dX3_correct_69 : decode cX3_correct 69 = .ok (.aload_n 0, 1) := dk_42 (dk_at dksX3_correct_2 22 rfl rfl)
theorem dX3_correct_70 : decode cX3_correct 70 = .ok (.iload_n 3, 1) := dk_29 (dk_at dksX3_correct_2 23 rfl rfl)
theorem dX3_correct_71 : decode cX3_correct 71 = .ok (.invokevirtual 78, 3) := dk_182 0 78 (dk_at dksX3_correct_3 0 rfl rfl)
theorem dX3_correct_74 : decode cX3_correct 74 = .ok (.if_icmp .ge 34, 3) := dk_162 0 34 (dk_at dksX3_correct_3 3 rfl rfl)
theorem dX3_correct_77 : decode cX3_correct 77 = .ok (.iload_n 2, 1) := dk_28 (dk_at dksX3_correct_3 6 rfl rfl)
theorem dX3_correct_78 : decode cX3_correct 78 = .ok (.aload_n 0, 1) := dk_42 (dk_at dksX3_correct_3 7 rfl rfl)
theorem dX3_correct_79 : decode cX3_correct 79 = .ok (.iload_n 3, 1) := dk_29 (dk_at dksX3_correct_3 8 rfl rfl)
theorem dX3_correct_80 : decode cX3_correct 80 = .ok (.iload 4, 2) := dk_21 4 (dk_at dksX3_correct_3 9 rfl rfl)
theorem dX3_correct_82 : decode cX3_correct 82 = .ok (.iload_n 1, 1) := dk_27 (dk_at dksX3_correct_3 11 rfl rfl)
theorem dX3_correct_83 : decode cX3_correct 83 = .ok (.invokevirtual 107, 3) := dk_182 0 107 (dk_at dksX3_correct_3 12 rfl rfl)
theorem dX3_correct_86 : decode cX3_correct 86 = .ok (.ifCond .eq 13, 3) := dk_153 0 13 (dk_at dksX3_correct_3 15 rfl rfl)
theorem dX3_correct_89 : decode cX3_correct 89 = .ok (.aload_n 0, 1) := dk_42 (dk_at dksX3_correct_3 18 rfl rfl)
theorem dX3_correct_90 : decode cX3_correct 90 = .ok (.iload_n 3, 1) := dk_29 (dk_at dksX3_correct_3 19 rfl rfl)
theorem dX3_correct_91 : decode cX3_correct 91 = .ok (.iload 4, 2) := dk_21 4 (dk_at dksX3_correct_3 20 rfl rfl)
theorem dX3_correct_93 : decode cX3_correct 93 = .ok (.invokevirtual 110, 3) := dk_182 0 110 (dk_at dksX3_correct_4 0 rfl rfl)
theorem dX3_correct_96 : decode cX3_correct 96 = .ok (.goto 4, 3) := dk_167 0 4 (dk_at dksX3_correct_4 3 rfl rfl)
theorem dX3_correct_99 : decode cX3_correct 99 = .ok (.iconst 0, 1) := dk_3 (dk_at dksX3_correct_4 6 rfl rfl)
theorem dX3_correct_100 : decode cX3_correct 100 = .ok (.iadd, 1) := dk_96 (dk_at dksX3_correct_4 7 rfl rfl)
theorem dX3_correct_101 : decode cX3_correct 101 = .ok (.istore_n 2, 1) := dk_61 (dk_at dksX3_correct_4 8 rfl rfl)
theorem dX3_correct_102 : decode cX3_correct 102 = .ok (.iinc 4 1, 3) := dk_132 4 1 (dk_at dksX3_correct_4 9 rfl rfl)
theorem dX3_correct_105 : decode cX3_correct 105 = .ok (.goto (-46), 3) := dk_167 255 210 (dk_at dksX3_correct_4 12 rfl rfl)
theorem dX3_correct_108 : decode cX3_correct 108 = .ok (.iinc 3 1, 3) := dk_132 3 1 (dk_at dksX3_correct_4 15 rfl rfl)
theorem dX3_correct_111 : decode cX3_correct 111 = .ok (.goto (-63), 3) := dk_167 255 193 (dk_at dksX3_correct_4 18 rfl rfl)
theorem dX3_correct_114 : decode cX3_correct 114 = .ok (.iload_n 2, 1) := dk_28 (dk_at dksX3_correct_4 21 rfl rfl)
theorem dX3_correct_115 : decode cX3_correct 115 = .ok (.ireturn, 1) := dk_172 (dk_at dksX3_correct_4 22 rfl rfl)
abbrev cX3_isWhole : ByteArray := prog_15_method_7_code
def yX3_isWhole : MethodName := ⟨RX3, "isWhole", "(I)Z"⟩
def dkwX3_isWhole_1 : List UInt8 := [4, 167, 0, 4, 3, 172]
abbrev dktX3_isWhole_1 : List UInt8 := dkwX3_isWhole_1 ++ []
def dkwX3_isWhole_0 : List UInt8 := [42, 180, 0, 16, 27, 46, 158, 0, 22, 42, 180, 0, 16, 27, 46, 42, 27, 182, 0, 64, 112, 154, 0, 7]
abbrev dktX3_isWhole_0 : List UInt8 := dkwX3_isWhole_0 ++ dktX3_isWhole_1
theorem dksX3_isWhole_0 : cX3_isWhole.data.toList.drop 0 = dktX3_isWhole_0 := by decide +kernel
theorem dksX3_isWhole_1 : cX3_isWhole.data.toList.drop 24 = dktX3_isWhole_1 := dk_seg dksX3_isWhole_0 24 rfl rfl
theorem dX3_isWhole_0 : decode cX3_isWhole 0 = .ok (.aload_n 0, 1) := dk_42 (dk_at dksX3_isWhole_0 0 rfl rfl)
theorem dX3_isWhole_1 : decode cX3_isWhole 1 = .ok (.getfield 16, 3) := dk_180 0 16 (dk_at dksX3_isWhole_0 1 rfl rfl)
theorem dX3_isWhole_4 : decode cX3_isWhole 4 = .ok (.iload_n 1, 1) := dk_27 (dk_at dksX3_isWhole_0 4 rfl rfl)
theorem dX3_isWhole_5 : decode cX3_isWhole 5 = .ok (.iaload, 1) := dk_46 (dk_at dksX3_isWhole_0 5 rfl rfl)
theorem dX3_isWhole_6 : decode cX3_isWhole 6 = .ok (.ifCond .le 22, 3) := dk_158 0 22 (dk_at dksX3_isWhole_0 6 rfl rfl)
theorem dX3_isWhole_9 : decode cX3_isWhole 9 = .ok (.aload_n 0, 1) := dk_42 (dk_at dksX3_isWhole_0 9 rfl rfl)
theorem dX3_isWhole_10 : decode cX3_isWhole 10 = .ok (.getfield 16, 3) := dk_180 0 16 (dk_at dksX3_isWhole_0 10 rfl rfl)
theorem dX3_isWhole_13 : decode cX3_isWhole 13 = .ok (.iload_n 1, 1) := dk_27 (dk_at dksX3_isWhole_0 13 rfl rfl)
theorem dX3_isWhole_14 : decode cX3_isWhole 14 = .ok (.iaload, 1) := dk_46 (dk_at dksX3_isWhole_0 14 rfl rfl)
theorem dX3_isWhole_15 : decode cX3_isWhole 15 = .ok (.aload_n 0, 1) := dk_42 (dk_at dksX3_isWhole_0 15 rfl rfl)
theorem dX3_isWhole_16 : decode cX3_isWhole 16 = .ok (.iload_n 1, 1) := dk_27 (dk_at dksX3_isWhole_0 16 rfl rfl)
theorem dX3_isWhole_17 : decode cX3_isWhole 17 = .ok (.invokevirtual 64, 3) := dk_182 0 64 (dk_at dksX3_isWhole_0 17 rfl rfl)
theorem dX3_isWhole_20 : decode cX3_isWhole 20 = .ok (.irem, 1) := dk_112 (dk_at dksX3_isWhole_0 20 rfl rfl)
theorem dX3_isWhole_21 : decode cX3_isWhole 21 = .ok (.ifCond .ne 7, 3) := dk_154 0 7 (dk_at dksX3_isWhole_0 21 rfl rfl)
theorem dX3_isWhole_24 : decode cX3_isWhole 24 = .ok (.iconst 1, 1) := dk_4 (dk_at dksX3_isWhole_1 0 rfl rfl)
theorem dX3_isWhole_25 : decode cX3_isWhole 25 = .ok (.goto 4, 3) := dk_167 0 4 (dk_at dksX3_isWhole_1 1 rfl rfl)
theorem dX3_isWhole_28 : decode cX3_isWhole 28 = .ok (.iconst 0, 1) := dk_3 (dk_at dksX3_isWhole_1 4 rfl rfl)
theorem dX3_isWhole_29 : decode cX3_isWhole 29 = .ok (.ireturn, 1) := dk_172 (dk_at dksX3_isWhole_1 5 rfl rfl)
abbrev cX3_places : ByteArray := prog_15_method_6_code
def yX3_places : MethodName := ⟨RX3, "places", "(I)I"⟩
def dkwX3_places_0 : List UInt8 := [42, 180, 0, 13, 27, 46, 16, 119, 160, 0, 7, 5, 167, 0, 4, 7, 172]
abbrev dktX3_places_0 : List UInt8 := dkwX3_places_0 ++ []
theorem dksX3_places_0 : cX3_places.data.toList.drop 0 = dktX3_places_0 := by decide +kernel
theorem dX3_places_0 : decode cX3_places 0 = .ok (.aload_n 0, 1) := dk_42 (dk_at dksX3_places_0 0 rfl rfl)
theorem dX3_places_1 : decode cX3_places 1 = .ok (.getfield 13, 3) := dk_180 0 13 (dk_at dksX3_places_0 1 rfl rfl)
theorem dX3_places_4 : decode cX3_places 4 = .ok (.iload_n 1, 1) := dk_27 (dk_at dksX3_places_0 4 rfl rfl)
theorem dX3_places_5 : decode cX3_places 5 = .ok (.iaload, 1) := dk_46 (dk_at dksX3_places_0 5 rfl rfl)
theorem dX3_places_6 : decode cX3_places 6 = .ok (.bipush 119, 2) := dk_16 119 (dk_at dksX3_places_0 6 rfl rfl)
theorem dX3_places_8 : decode cX3_places 8 = .ok (.if_icmp .ne 7, 3) := dk_160 0 7 (dk_at dksX3_places_0 8 rfl rfl)
theorem dX3_places_11 : decode cX3_places 11 = .ok (.iconst 2, 1) := dk_5 (dk_at dksX3_places_0 11 rfl rfl)
theorem dX3_places_12 : decode cX3_places 12 = .ok (.goto 4, 3) := dk_167 0 4 (dk_at dksX3_places_0 12 rfl rfl)
theorem dX3_places_15 : decode cX3_places 15 = .ok (.iconst 4, 1) := dk_7 (dk_at dksX3_places_0 15 rfl rfl)
theorem dX3_places_16 : decode cX3_places 16 = .ok (.ireturn, 1) := dk_172 (dk_at dksX3_places_0 16 rfl rfl)
abbrev cX3_count : ByteArray := prog_15_method_8_code
def yX3_count : MethodName := ⟨RX3, "count", "(I)I"⟩
def dkwX3_count_0 : List UInt8 := [42, 180, 0, 16, 27, 46, 42, 27, 182, 0, 64, 108, 172]
abbrev dktX3_count_0 : List UInt8 := dkwX3_count_0 ++ []
theorem dksX3_count_0 : cX3_count.data.toList.drop 0 = dktX3_count_0 := by decide +kernel
theorem dX3_count_0 : decode cX3_count 0 = .ok (.aload_n 0, 1) := dk_42 (dk_at dksX3_count_0 0 rfl rfl)
theorem dX3_count_1 : decode cX3_count 1 = .ok (.getfield 16, 3) := dk_180 0 16 (dk_at dksX3_count_0 1 rfl rfl)
theorem dX3_count_4 : decode cX3_count 4 = .ok (.iload_n 1, 1) := dk_27 (dk_at dksX3_count_0 4 rfl rfl)
theorem dX3_count_5 : decode cX3_count 5 = .ok (.iaload, 1) := dk_46 (dk_at dksX3_count_0 5 rfl rfl)
theorem dX3_count_6 : decode cX3_count 6 = .ok (.aload_n 0, 1) := dk_42 (dk_at dksX3_count_0 6 rfl rfl)
theorem dX3_count_7 : decode cX3_count 7 = .ok (.iload_n 1, 1) := dk_27 (dk_at dksX3_count_0 7 rfl rfl)
theorem dX3_count_8 : decode cX3_count 8 = .ok (.invokevirtual 64, 3) := dk_182 0 64 (dk_at dksX3_count_0 8 rfl rfl)
theorem dX3_count_11 : decode cX3_count 11 = .ok (.idiv, 1) := dk_108 (dk_at dksX3_count_0 11 rfl rfl)
theorem dX3_count_12 : decode cX3_count 12 = .ok (.ireturn, 1) := dk_172 (dk_at dksX3_count_0 12 rfl rfl)
abbrev cX3_isShown : ByteArray := prog_15_method_17_code
def yX3_isShown : MethodName := ⟨RX3, "isShown", "(III)Z"⟩
def dkwX3_isShown_1 : List UInt8 := [160, 0, 5, 4, 172, 132, 4, 1, 167, 255, 229, 3, 172]
abbrev dktX3_isShown_1 : List UInt8 := dkwX3_isShown_1 ++ []
def dkwX3_isShown_0 : List UInt8 := [3, 54, 4, 21, 4, 42, 27, 182, 0, 64, 162, 0, 23, 42, 27, 28, 21, 4, 182, 0, 85, 29]
abbrev dktX3_isShown_0 : List UInt8 := dkwX3_isShown_0 ++ dktX3_isShown_1
theorem dksX3_isShown_0 : cX3_isShown.data.toList.drop 0 = dktX3_isShown_0 := by decide +kernel
theorem dksX3_isShown_1 : cX3_isShown.data.toList.drop 22 = dktX3_isShown_1 := dk_seg dksX3_isShown_0 22 rfl rfl
theorem dX3_isShown_0 : decode cX3_isShown 0 = .ok (.iconst 0, 1) := dk_3 (dk_at dksX3_isShown_0 0 rfl rfl)
theorem dX3_isShown_1 : decode cX3_isShown 1 = .ok (.istore 4, 2) := dk_54 4 (dk_at dksX3_isShown_0 1 rfl rfl)
theorem dX3_isShown_3 : decode cX3_isShown 3 = .ok (.iload 4, 2) := dk_21 4 (dk_at dksX3_isShown_0 3 rfl rfl)
theorem dX3_isShown_5 : decode cX3_isShown 5 = .ok (.aload_n 0, 1) := dk_42 (dk_at dksX3_isShown_0 5 rfl rfl)
theorem dX3_isShown_6 : decode cX3_isShown 6 = .ok (.iload_n 1, 1) := dk_27 (dk_at dksX3_isShown_0 6 rfl rfl)
theorem dX3_isShown_7 : decode cX3_isShown 7 = .ok (.invokevirtual 64, 3) := dk_182 0 64 (dk_at dksX3_isShown_0 7 rfl rfl)
theorem dX3_isShown_10 : decode cX3_isShown 10 = .ok (.if_icmp .ge 23, 3) := dk_162 0 23 (dk_at dksX3_isShown_0 10 rfl rfl)
theorem dX3_isShown_13 : decode cX3_isShown 13 = .ok (.aload_n 0, 1) := dk_42 (dk_at dksX3_isShown_0 13 rfl rfl)
theorem dX3_isShown_14 : decode cX3_isShown 14 = .ok (.iload_n 1, 1) := dk_27 (dk_at dksX3_isShown_0 14 rfl rfl)
theorem dX3_isShown_15 : decode cX3_isShown 15 = .ok (.iload_n 2, 1) := dk_28 (dk_at dksX3_isShown_0 15 rfl rfl)
theorem dX3_isShown_16 : decode cX3_isShown 16 = .ok (.iload 4, 2) := dk_21 4 (dk_at dksX3_isShown_0 16 rfl rfl)
theorem dX3_isShown_18 : decode cX3_isShown 18 = .ok (.invokevirtual 85, 3) := dk_182 0 85 (dk_at dksX3_isShown_0 18 rfl rfl)
theorem dX3_isShown_21 : decode cX3_isShown 21 = .ok (.iload_n 3, 1) := dk_29 (dk_at dksX3_isShown_0 21 rfl rfl)
theorem dX3_isShown_22 : decode cX3_isShown 22 = .ok (.if_icmp .ne 5, 3) := dk_160 0 5 (dk_at dksX3_isShown_1 0 rfl rfl)
theorem dX3_isShown_25 : decode cX3_isShown 25 = .ok (.iconst 1, 1) := dk_4 (dk_at dksX3_isShown_1 3 rfl rfl)
theorem dX3_isShown_26 : decode cX3_isShown 26 = .ok (.ireturn, 1) := dk_172 (dk_at dksX3_isShown_1 4 rfl rfl)
theorem dX3_isShown_27 : decode cX3_isShown 27 = .ok (.iinc 4 1, 3) := dk_132 4 1 (dk_at dksX3_isShown_1 5 rfl rfl)
theorem dX3_isShown_30 : decode cX3_isShown 30 = .ok (.goto (-27), 3) := dk_167 255 229 (dk_at dksX3_isShown_1 8 rfl rfl)
theorem dX3_isShown_33 : decode cX3_isShown 33 = .ok (.iconst 0, 1) := dk_3 (dk_at dksX3_isShown_1 11 rfl rfl)
theorem dX3_isShown_34 : decode cX3_isShown 34 = .ok (.ireturn, 1) := dk_172 (dk_at dksX3_isShown_1 12 rfl rfl)
abbrev cX3_contentOn : ByteArray := prog_15_method_12_code
def yX3_contentOn : MethodName := ⟨RX3, "contentOn", "(III)I"⟩
def dkwX3_contentOn_0 : List UInt8 := [42, 180, 0, 19, 16, 16, 27, 104, 42, 27, 28, 29, 182, 0, 81, 96, 4, 100, 46, 172]
abbrev dktX3_contentOn_0 : List UInt8 := dkwX3_contentOn_0 ++ []
theorem dksX3_contentOn_0 : cX3_contentOn.data.toList.drop 0 = dktX3_contentOn_0 := by decide +kernel
theorem dX3_contentOn_0 : decode cX3_contentOn 0 = .ok (.aload_n 0, 1) := dk_42 (dk_at dksX3_contentOn_0 0 rfl rfl)
theorem dX3_contentOn_1 : decode cX3_contentOn 1 = .ok (.getfield 19, 3) := dk_180 0 19 (dk_at dksX3_contentOn_0 1 rfl rfl)
theorem dX3_contentOn_4 : decode cX3_contentOn 4 = .ok (.bipush 16, 2) := dk_16 16 (dk_at dksX3_contentOn_0 4 rfl rfl)
theorem dX3_contentOn_6 : decode cX3_contentOn 6 = .ok (.iload_n 1, 1) := dk_27 (dk_at dksX3_contentOn_0 6 rfl rfl)
theorem dX3_contentOn_7 : decode cX3_contentOn 7 = .ok (.imul, 1) := dk_104 (dk_at dksX3_contentOn_0 7 rfl rfl)
theorem dX3_contentOn_8 : decode cX3_contentOn 8 = .ok (.aload_n 0, 1) := dk_42 (dk_at dksX3_contentOn_0 8 rfl rfl)
theorem dX3_contentOn_9 : decode cX3_contentOn 9 = .ok (.iload_n 1, 1) := dk_27 (dk_at dksX3_contentOn_0 9 rfl rfl)
theorem dX3_contentOn_10 : decode cX3_contentOn 10 = .ok (.iload_n 2, 1) := dk_28 (dk_at dksX3_contentOn_0 10 rfl rfl)
theorem dX3_contentOn_11 : decode cX3_contentOn 11 = .ok (.iload_n 3, 1) := dk_29 (dk_at dksX3_contentOn_0 11 rfl rfl)
theorem dX3_contentOn_12 : decode cX3_contentOn 12 = .ok (.invokevirtual 81, 3) := dk_182 0 81 (dk_at dksX3_contentOn_0 12 rfl rfl)
theorem dX3_contentOn_15 : decode cX3_contentOn 15 = .ok (.iadd, 1) := dk_96 (dk_at dksX3_contentOn_0 15 rfl rfl)
theorem dX3_contentOn_16 : decode cX3_contentOn 16 = .ok (.iconst 1, 1) := dk_4 (dk_at dksX3_contentOn_0 16 rfl rfl)
theorem dX3_contentOn_17 : decode cX3_contentOn 17 = .ok (.isub, 1) := dk_100 (dk_at dksX3_contentOn_0 17 rfl rfl)
theorem dX3_contentOn_18 : decode cX3_contentOn 18 = .ok (.iaload, 1) := dk_46 (dk_at dksX3_contentOn_0 18 rfl rfl)
theorem dX3_contentOn_19 : decode cX3_contentOn 19 = .ok (.ireturn, 1) := dk_172 (dk_at dksX3_contentOn_0 19 rfl rfl)
abbrev cX3_pageOn : ByteArray := prog_15_method_11_code
def yX3_pageOn : MethodName := ⟨RX3, "pageOn", "(III)I"⟩
def dkwX3_pageOn_4 : List UInt8 := [21, 4, 5, 28, 104, 100, 4, 100, 172]
abbrev dktX3_pageOn_4 : List UInt8 := dkwX3_pageOn_4 ++ []
def dkwX3_pageOn_3 : List UInt8 := [160, 0, 11, 5, 28, 104, 4, 96, 167, 0, 24, 29, 5, 160, 0, 11, 5, 28, 104, 5, 96, 167, 0, 11]
abbrev dktX3_pageOn_3 : List UInt8 := dkwX3_pageOn_3 ++ dktX3_pageOn_4
def dkwX3_pageOn_2 : List UInt8 := [42, 180, 0, 16, 27, 46, 54, 4, 29, 154, 0, 12, 21, 4, 5, 28, 104, 100, 167, 0, 37, 29, 4]
abbrev dktX3_pageOn_2 : List UInt8 := dkwX3_pageOn_2 ++ dktX3_pageOn_3
def dkwX3_pageOn_1 : List UInt8 := [46, 16, 112, 160, 0, 21, 29, 154, 0, 11, 7, 28, 104, 7, 96, 167, 0, 8, 7, 28, 104, 29, 96, 172]
abbrev dktX3_pageOn_1 : List UInt8 := dkwX3_pageOn_1 ++ dktX3_pageOn_2
def dkwX3_pageOn_0 : List UInt8 := [42, 180, 0, 13, 27, 46, 16, 119, 160, 0, 11, 5, 28, 104, 4, 96, 29, 96, 172, 42, 180, 0, 13, 27]
abbrev dktX3_pageOn_0 : List UInt8 := dkwX3_pageOn_0 ++ dktX3_pageOn_1
theorem dksX3_pageOn_0 : cX3_pageOn.data.toList.drop 0 = dktX3_pageOn_0 := by decide +kernel
theorem dksX3_pageOn_1 : cX3_pageOn.data.toList.drop 24 = dktX3_pageOn_1 := dk_seg dksX3_pageOn_0 24 rfl rfl
theorem dksX3_pageOn_2 : cX3_pageOn.data.toList.drop 48 = dktX3_pageOn_2 := dk_seg dksX3_pageOn_1 24 rfl rfl
theorem dksX3_pageOn_3 : cX3_pageOn.data.toList.drop 71 = dktX3_pageOn_3 := dk_seg dksX3_pageOn_2 23 rfl rfl
theorem dksX3_pageOn_4 : cX3_pageOn.data.toList.drop 95 = dktX3_pageOn_4 := dk_seg dksX3_pageOn_3 24 rfl rfl
theorem dX3_pageOn_0 : decode cX3_pageOn 0 = .ok (.aload_n 0, 1) := dk_42 (dk_at dksX3_pageOn_0 0 rfl rfl)
theorem dX3_pageOn_1 : decode cX3_pageOn 1 = .ok (.getfield 13, 3) := dk_180 0 13 (dk_at dksX3_pageOn_0 1 rfl rfl)
theorem dX3_pageOn_4 : decode cX3_pageOn 4 = .ok (.iload_n 1, 1) := dk_27 (dk_at dksX3_pageOn_0 4 rfl rfl)
theorem dX3_pageOn_5 : decode cX3_pageOn 5 = .ok (.iaload, 1) := dk_46 (dk_at dksX3_pageOn_0 5 rfl rfl)
theorem dX3_pageOn_6 : decode cX3_pageOn 6 = .ok (.bipush 119, 2) := dk_16 119 (dk_at dksX3_pageOn_0 6 rfl rfl)
theorem dX3_pageOn_8 : decode cX3_pageOn 8 = .ok (.if_icmp .ne 11, 3) := dk_160 0 11 (dk_at dksX3_pageOn_0 8 rfl rfl)
theorem dX3_pageOn_11 : decode cX3_pageOn 11 = .ok (.iconst 2, 1) := dk_5 (dk_at dksX3_pageOn_0 11 rfl rfl)
theorem dX3_pageOn_12 : decode cX3_pageOn 12 = .ok (.iload_n 2, 1) := dk_28 (dk_at dksX3_pageOn_0 12 rfl rfl)
theorem dX3_pageOn_13 : decode cX3_pageOn 13 = .ok (.imul, 1) := dk_104 (dk_at dksX3_pageOn_0 13 rfl rfl)
theorem dX3_pageOn_14 : decode cX3_pageOn 14 = .ok (.iconst 1, 1) := dk_4 (dk_at dksX3_pageOn_0 14 rfl rfl)
theorem dX3_pageOn_15 : decode cX3_pageOn 15 = .ok (.iadd, 1) := dk_96 (dk_at dksX3_pageOn_0 15 rfl rfl)
theorem dX3_pageOn_16 : decode cX3_pageOn 16 = .ok (.iload_n 3, 1) := dk_29 (dk_at dksX3_pageOn_0 16 rfl rfl)
theorem dX3_pageOn_17 : decode cX3_pageOn 17 = .ok (.iadd, 1) := dk_96 (dk_at dksX3_pageOn_0 17 rfl rfl)
theorem dX3_pageOn_18 : decode cX3_pageOn 18 = .ok (.ireturn, 1) := dk_172 (dk_at dksX3_pageOn_0 18 rfl rfl)
theorem dX3_pageOn_19 : decode cX3_pageOn 19 = .ok (.aload_n 0, 1) := dk_42 (dk_at dksX3_pageOn_0 19 rfl rfl)
theorem dX3_pageOn_20 : decode cX3_pageOn 20 = .ok (.getfield 13, 3) := dk_180 0 13 (dk_at dksX3_pageOn_0 20 rfl rfl)
theorem dX3_pageOn_23 : decode cX3_pageOn 23 = .ok (.iload_n 1, 1) := dk_27 (dk_at dksX3_pageOn_0 23 rfl rfl)
theorem dX3_pageOn_24 : decode cX3_pageOn 24 = .ok (.iaload, 1) := dk_46 (dk_at dksX3_pageOn_1 0 rfl rfl)
theorem dX3_pageOn_25 : decode cX3_pageOn 25 = .ok (.bipush 112, 2) := dk_16 112 (dk_at dksX3_pageOn_1 1 rfl rfl)
theorem dX3_pageOn_27 : decode cX3_pageOn 27 = .ok (.if_icmp .ne 21, 3) := dk_160 0 21 (dk_at dksX3_pageOn_1 3 rfl rfl)
theorem dX3_pageOn_30 : decode cX3_pageOn 30 = .ok (.iload_n 3, 1) := dk_29 (dk_at dksX3_pageOn_1 6 rfl rfl)
theorem dX3_pageOn_31 : decode cX3_pageOn 31 = .ok (.ifCond .ne 11, 3) := dk_154 0 11 (dk_at dksX3_pageOn_1 7 rfl rfl)
theorem dX3_pageOn_34 : decode cX3_pageOn 34 = .ok (.iconst 4, 1) := dk_7 (dk_at dksX3_pageOn_1 10 rfl rfl)
theorem dX3_pageOn_35 : decode cX3_pageOn 35 = .ok (.iload_n 2, 1) := dk_28 (dk_at dksX3_pageOn_1 11 rfl rfl)
theorem dX3_pageOn_36 : decode cX3_pageOn 36 = .ok (.imul, 1) := dk_104 (dk_at dksX3_pageOn_1 12 rfl rfl)
theorem dX3_pageOn_37 : decode cX3_pageOn 37 = .ok (.iconst 4, 1) := dk_7 (dk_at dksX3_pageOn_1 13 rfl rfl)
theorem dX3_pageOn_38 : decode cX3_pageOn 38 = .ok (.iadd, 1) := dk_96 (dk_at dksX3_pageOn_1 14 rfl rfl)
theorem dX3_pageOn_39 : decode cX3_pageOn 39 = .ok (.goto 8, 3) := dk_167 0 8 (dk_at dksX3_pageOn_1 15 rfl rfl)
theorem dX3_pageOn_42 : decode cX3_pageOn 42 = .ok (.iconst 4, 1) := dk_7 (dk_at dksX3_pageOn_1 18 rfl rfl)
theorem dX3_pageOn_43 : decode cX3_pageOn 43 = .ok (.iload_n 2, 1) := dk_28 (dk_at dksX3_pageOn_1 19 rfl rfl)
theorem dX3_pageOn_44 : decode cX3_pageOn 44 = .ok (.imul, 1) := dk_104 (dk_at dksX3_pageOn_1 20 rfl rfl)
theorem dX3_pageOn_45 : decode cX3_pageOn 45 = .ok (.iload_n 3, 1) := dk_29 (dk_at dksX3_pageOn_1 21 rfl rfl)
theorem dX3_pageOn_46 : decode cX3_pageOn 46 = .ok (.iadd, 1) := dk_96 (dk_at dksX3_pageOn_1 22 rfl rfl)
theorem dX3_pageOn_47 : decode cX3_pageOn 47 = .ok (.ireturn, 1) := dk_172 (dk_at dksX3_pageOn_1 23 rfl rfl)
theorem dX3_pageOn_48 : decode cX3_pageOn 48 = .ok (.aload_n 0, 1) := dk_42 (dk_at dksX3_pageOn_2 0 rfl rfl)
theorem dX3_pageOn_49 : decode cX3_pageOn 49 = .ok (.getfield 16, 3) := dk_180 0 16 (dk_at dksX3_pageOn_2 1 rfl rfl)
theorem dX3_pageOn_52 : decode cX3_pageOn 52 = .ok (.iload_n 1, 1) := dk_27 (dk_at dksX3_pageOn_2 4 rfl rfl)
theorem dX3_pageOn_53 : decode cX3_pageOn 53 = .ok (.iaload, 1) := dk_46 (dk_at dksX3_pageOn_2 5 rfl rfl)
theorem dX3_pageOn_54 : decode cX3_pageOn 54 = .ok (.istore 4, 2) := dk_54 4 (dk_at dksX3_pageOn_2 6 rfl rfl)
theorem dX3_pageOn_56 : decode cX3_pageOn 56 = .ok (.iload_n 3, 1) := dk_29 (dk_at dksX3_pageOn_2 8 rfl rfl)
theorem dX3_pageOn_57 : decode cX3_pageOn 57 = .ok (.ifCond .ne 12, 3) := dk_154 0 12 (dk_at dksX3_pageOn_2 9 rfl rfl)
theorem dX3_pageOn_60 : decode cX3_pageOn 60 = .ok (.iload 4, 2) := dk_21 4 (dk_at dksX3_pageOn_2 12 rfl rfl)
theorem dX3_pageOn_62 : decode cX3_pageOn 62 = .ok (.iconst 2, 1) := dk_5 (dk_at dksX3_pageOn_2 14 rfl rfl)
theorem dX3_pageOn_63 : decode cX3_pageOn 63 = .ok (.iload_n 2, 1) := dk_28 (dk_at dksX3_pageOn_2 15 rfl rfl)
theorem dX3_pageOn_64 : decode cX3_pageOn 64 = .ok (.imul, 1) := dk_104 (dk_at dksX3_pageOn_2 16 rfl rfl)
theorem dX3_pageOn_65 : decode cX3_pageOn 65 = .ok (.isub, 1) := dk_100 (dk_at dksX3_pageOn_2 17 rfl rfl)
theorem dX3_pageOn_66 : decode cX3_pageOn 66 = .ok (.goto 37, 3) := dk_167 0 37 (dk_at dksX3_pageOn_2 18 rfl rfl)
theorem dX3_pageOn_69 : decode cX3_pageOn 69 = .ok (.iload_n 3, 1) := dk_29 (dk_at dksX3_pageOn_2 21 rfl rfl)
theorem dX3_pageOn_70 : decode cX3_pageOn 70 = .ok (.iconst 1, 1) := dk_4 (dk_at dksX3_pageOn_2 22 rfl rfl)
theorem dX3_pageOn_71 : decode cX3_pageOn 71 = .ok (.if_icmp .ne 11, 3) := dk_160 0 11 (dk_at dksX3_pageOn_3 0 rfl rfl)
theorem dX3_pageOn_74 : decode cX3_pageOn 74 = .ok (.iconst 2, 1) := dk_5 (dk_at dksX3_pageOn_3 3 rfl rfl)
theorem dX3_pageOn_75 : decode cX3_pageOn 75 = .ok (.iload_n 2, 1) := dk_28 (dk_at dksX3_pageOn_3 4 rfl rfl)
theorem dX3_pageOn_76 : decode cX3_pageOn 76 = .ok (.imul, 1) := dk_104 (dk_at dksX3_pageOn_3 5 rfl rfl)
theorem dX3_pageOn_77 : decode cX3_pageOn 77 = .ok (.iconst 1, 1) := dk_4 (dk_at dksX3_pageOn_3 6 rfl rfl)
theorem dX3_pageOn_78 : decode cX3_pageOn 78 = .ok (.iadd, 1) := dk_96 (dk_at dksX3_pageOn_3 7 rfl rfl)
theorem dX3_pageOn_79 : decode cX3_pageOn 79 = .ok (.goto 24, 3) := dk_167 0 24 (dk_at dksX3_pageOn_3 8 rfl rfl)
theorem dX3_pageOn_82 : decode cX3_pageOn 82 = .ok (.iload_n 3, 1) := dk_29 (dk_at dksX3_pageOn_3 11 rfl rfl)
theorem dX3_pageOn_83 : decode cX3_pageOn 83 = .ok (.iconst 2, 1) := dk_5 (dk_at dksX3_pageOn_3 12 rfl rfl)
theorem dX3_pageOn_84 : decode cX3_pageOn 84 = .ok (.if_icmp .ne 11, 3) := dk_160 0 11 (dk_at dksX3_pageOn_3 13 rfl rfl)
theorem dX3_pageOn_87 : decode cX3_pageOn 87 = .ok (.iconst 2, 1) := dk_5 (dk_at dksX3_pageOn_3 16 rfl rfl)
theorem dX3_pageOn_88 : decode cX3_pageOn 88 = .ok (.iload_n 2, 1) := dk_28 (dk_at dksX3_pageOn_3 17 rfl rfl)
theorem dX3_pageOn_89 : decode cX3_pageOn 89 = .ok (.imul, 1) := dk_104 (dk_at dksX3_pageOn_3 18 rfl rfl)
theorem dX3_pageOn_90 : decode cX3_pageOn 90 = .ok (.iconst 2, 1) := dk_5 (dk_at dksX3_pageOn_3 19 rfl rfl)
theorem dX3_pageOn_91 : decode cX3_pageOn 91 = .ok (.iadd, 1) := dk_96 (dk_at dksX3_pageOn_3 20 rfl rfl)
theorem dX3_pageOn_92 : decode cX3_pageOn 92 = .ok (.goto 11, 3) := dk_167 0 11 (dk_at dksX3_pageOn_3 21 rfl rfl)
theorem dX3_pageOn_95 : decode cX3_pageOn 95 = .ok (.iload 4, 2) := dk_21 4 (dk_at dksX3_pageOn_4 0 rfl rfl)
theorem dX3_pageOn_97 : decode cX3_pageOn 97 = .ok (.iconst 2, 1) := dk_5 (dk_at dksX3_pageOn_4 2 rfl rfl)
theorem dX3_pageOn_98 : decode cX3_pageOn 98 = .ok (.iload_n 2, 1) := dk_28 (dk_at dksX3_pageOn_4 3 rfl rfl)
theorem dX3_pageOn_99 : decode cX3_pageOn 99 = .ok (.imul, 1) := dk_104 (dk_at dksX3_pageOn_4 4 rfl rfl)
theorem dX3_pageOn_100 : decode cX3_pageOn 100 = .ok (.isub, 1) := dk_100 (dk_at dksX3_pageOn_4 5 rfl rfl)
theorem dX3_pageOn_101 : decode cX3_pageOn 101 = .ok (.iconst 1, 1) := dk_4 (dk_at dksX3_pageOn_4 6 rfl rfl)
theorem dX3_pageOn_102 : decode cX3_pageOn 102 = .ok (.isub, 1) := dk_100 (dk_at dksX3_pageOn_4 7 rfl rfl)
theorem dX3_pageOn_103 : decode cX3_pageOn 103 = .ok (.ireturn, 1) := dk_172 (dk_at dksX3_pageOn_4 8 rfl rfl)
abbrev cX3_voids : ByteArray := prog_15_method_18_code
def yX3_voids : MethodName := ⟨RX3, "voids", "(II)I"⟩
def dkwX3_voids_1 : List UInt8 := [42, 89, 180, 0, 97, 29, 133, 97, 181, 0, 97, 29, 172]
abbrev dktX3_voids_1 : List UInt8 := dkwX3_voids_1 ++ []
def dkwX3_voids_0 : List UInt8 := [42, 180, 0, 22, 16, 8, 27, 104, 28, 96, 46, 62, 42, 180, 0, 22, 16, 8, 27, 104, 28, 96, 3, 79]
abbrev dktX3_voids_0 : List UInt8 := dkwX3_voids_0 ++ dktX3_voids_1
theorem dksX3_voids_0 : cX3_voids.data.toList.drop 0 = dktX3_voids_0 := by decide +kernel
theorem dksX3_voids_1 : cX3_voids.data.toList.drop 24 = dktX3_voids_1 := dk_seg dksX3_voids_0 24 rfl rfl
theorem dX3_voids_0 : decode cX3_voids 0 = .ok (.aload_n 0, 1) := dk_42 (dk_at dksX3_voids_0 0 rfl rfl)
theorem dX3_voids_1 : decode cX3_voids 1 = .ok (.getfield 22, 3) := dk_180 0 22 (dk_at dksX3_voids_0 1 rfl rfl)
theorem dX3_voids_4 : decode cX3_voids 4 = .ok (.bipush 8, 2) := dk_16 8 (dk_at dksX3_voids_0 4 rfl rfl)
theorem dX3_voids_6 : decode cX3_voids 6 = .ok (.iload_n 1, 1) := dk_27 (dk_at dksX3_voids_0 6 rfl rfl)
theorem dX3_voids_7 : decode cX3_voids 7 = .ok (.imul, 1) := dk_104 (dk_at dksX3_voids_0 7 rfl rfl)
theorem dX3_voids_8 : decode cX3_voids 8 = .ok (.iload_n 2, 1) := dk_28 (dk_at dksX3_voids_0 8 rfl rfl)
theorem dX3_voids_9 : decode cX3_voids 9 = .ok (.iadd, 1) := dk_96 (dk_at dksX3_voids_0 9 rfl rfl)
theorem dX3_voids_10 : decode cX3_voids 10 = .ok (.iaload, 1) := dk_46 (dk_at dksX3_voids_0 10 rfl rfl)
theorem dX3_voids_11 : decode cX3_voids 11 = .ok (.istore_n 3, 1) := dk_62 (dk_at dksX3_voids_0 11 rfl rfl)
theorem dX3_voids_12 : decode cX3_voids 12 = .ok (.aload_n 0, 1) := dk_42 (dk_at dksX3_voids_0 12 rfl rfl)
theorem dX3_voids_13 : decode cX3_voids 13 = .ok (.getfield 22, 3) := dk_180 0 22 (dk_at dksX3_voids_0 13 rfl rfl)
theorem dX3_voids_16 : decode cX3_voids 16 = .ok (.bipush 8, 2) := dk_16 8 (dk_at dksX3_voids_0 16 rfl rfl)
theorem dX3_voids_18 : decode cX3_voids 18 = .ok (.iload_n 1, 1) := dk_27 (dk_at dksX3_voids_0 18 rfl rfl)
theorem dX3_voids_19 : decode cX3_voids 19 = .ok (.imul, 1) := dk_104 (dk_at dksX3_voids_0 19 rfl rfl)
theorem dX3_voids_20 : decode cX3_voids 20 = .ok (.iload_n 2, 1) := dk_28 (dk_at dksX3_voids_0 20 rfl rfl)
theorem dX3_voids_21 : decode cX3_voids 21 = .ok (.iadd, 1) := dk_96 (dk_at dksX3_voids_0 21 rfl rfl)
theorem dX3_voids_22 : decode cX3_voids 22 = .ok (.iconst 0, 1) := dk_3 (dk_at dksX3_voids_0 22 rfl rfl)
theorem dX3_voids_23 : decode cX3_voids 23 = .ok (.iastore, 1) := dk_79 (dk_at dksX3_voids_0 23 rfl rfl)
theorem dX3_voids_24 : decode cX3_voids 24 = .ok (.aload_n 0, 1) := dk_42 (dk_at dksX3_voids_1 0 rfl rfl)
theorem dX3_voids_25 : decode cX3_voids 25 = .ok (.dup, 1) := dk_89 (dk_at dksX3_voids_1 1 rfl rfl)
theorem dX3_voids_26 : decode cX3_voids 26 = .ok (.getfield 97, 3) := dk_180 0 97 (dk_at dksX3_voids_1 2 rfl rfl)
theorem dX3_voids_29 : decode cX3_voids 29 = .ok (.iload_n 3, 1) := dk_29 (dk_at dksX3_voids_1 5 rfl rfl)
theorem dX3_voids_30 : decode cX3_voids 30 = .ok (.i2l, 1) := dk_133 (dk_at dksX3_voids_1 6 rfl rfl)
theorem dX3_voids_31 : decode cX3_voids 31 = .ok (.ladd, 1) := dk_97 (dk_at dksX3_voids_1 7 rfl rfl)
theorem dX3_voids_32 : decode cX3_voids 32 = .ok (.putfield 97, 3) := dk_181 0 97 (dk_at dksX3_voids_1 8 rfl rfl)
theorem dX3_voids_35 : decode cX3_voids 35 = .ok (.iload_n 3, 1) := dk_29 (dk_at dksX3_voids_1 11 rfl rfl)
theorem dX3_voids_36 : decode cX3_voids 36 = .ok (.ireturn, 1) := dk_172 (dk_at dksX3_voids_1 12 rfl rfl)
abbrev cX3_state : ByteArray := prog_15_method_22_code
def yX3_state : MethodName := ⟨RX3, "state", "(I)I"⟩
def dkwX3_state_0 : List UInt8 := [42, 27, 182, 0, 104, 153, 0, 12, 42, 180, 0, 7, 27, 46, 167, 0, 4, 3, 172]
abbrev dktX3_state_0 : List UInt8 := dkwX3_state_0 ++ []
theorem dksX3_state_0 : cX3_state.data.toList.drop 0 = dktX3_state_0 := by decide +kernel
theorem dX3_state_0 : decode cX3_state 0 = .ok (.aload_n 0, 1) := dk_42 (dk_at dksX3_state_0 0 rfl rfl)
theorem dX3_state_1 : decode cX3_state 1 = .ok (.iload_n 1, 1) := dk_27 (dk_at dksX3_state_0 1 rfl rfl)
theorem dX3_state_2 : decode cX3_state 2 = .ok (.invokevirtual 104, 3) := dk_182 0 104 (dk_at dksX3_state_0 2 rfl rfl)
theorem dX3_state_5 : decode cX3_state 5 = .ok (.ifCond .eq 12, 3) := dk_153 0 12 (dk_at dksX3_state_0 5 rfl rfl)
theorem dX3_state_8 : decode cX3_state 8 = .ok (.aload_n 0, 1) := dk_42 (dk_at dksX3_state_0 8 rfl rfl)
theorem dX3_state_9 : decode cX3_state 9 = .ok (.getfield 7, 3) := dk_180 0 7 (dk_at dksX3_state_0 9 rfl rfl)
theorem dX3_state_12 : decode cX3_state 12 = .ok (.iload_n 1, 1) := dk_27 (dk_at dksX3_state_0 12 rfl rfl)
theorem dX3_state_13 : decode cX3_state 13 = .ok (.iaload, 1) := dk_46 (dk_at dksX3_state_0 13 rfl rfl)
theorem dX3_state_14 : decode cX3_state 14 = .ok (.goto 4, 3) := dk_167 0 4 (dk_at dksX3_state_0 14 rfl rfl)
theorem dX3_state_17 : decode cX3_state 17 = .ok (.iconst 0, 1) := dk_3 (dk_at dksX3_state_0 17 rfl rfl)
theorem dX3_state_18 : decode cX3_state 18 = .ok (.ireturn, 1) := dk_172 (dk_at dksX3_state_0 18 rfl rfl)
abbrev cX3_addJob : ByteArray := prog_15_method_23_code
def yX3_addJob : MethodName := ⟨RX3, "addJob", "(C)I"⟩
def dkwX3_addJob_2 : List UInt8 := [180, 0, 68, 27, 79, 42, 89, 180, 0, 68, 4, 96, 181, 0, 68, 42, 180, 0, 68, 4, 100, 172]
abbrev dktX3_addJob_2 : List UInt8 := dkwX3_addJob_2 ++ []
def dkwX3_addJob_1 : List UInt8 := [42, 180, 0, 68, 7, 160, 0, 9, 42, 5, 182, 0, 101, 172, 42, 3, 181, 0, 53, 42, 180, 0, 13, 42]
abbrev dktX3_addJob_1 : List UInt8 := dkwX3_addJob_1 ++ dktX3_addJob_2
def dkwX3_addJob_0 : List UInt8 := [27, 16, 115, 159, 0, 21, 27, 16, 112, 159, 0, 15, 27, 16, 119, 159, 0, 9, 42, 4, 182, 0, 101, 172]
abbrev dktX3_addJob_0 : List UInt8 := dkwX3_addJob_0 ++ dktX3_addJob_1
theorem dksX3_addJob_0 : cX3_addJob.data.toList.drop 0 = dktX3_addJob_0 := by decide +kernel
theorem dksX3_addJob_1 : cX3_addJob.data.toList.drop 24 = dktX3_addJob_1 := dk_seg dksX3_addJob_0 24 rfl rfl
theorem dksX3_addJob_2 : cX3_addJob.data.toList.drop 48 = dktX3_addJob_2 := dk_seg dksX3_addJob_1 24 rfl rfl
theorem dX3_addJob_0 : decode cX3_addJob 0 = .ok (.iload_n 1, 1) := dk_27 (dk_at dksX3_addJob_0 0 rfl rfl)
theorem dX3_addJob_1 : decode cX3_addJob 1 = .ok (.bipush 115, 2) := dk_16 115 (dk_at dksX3_addJob_0 1 rfl rfl)
theorem dX3_addJob_3 : decode cX3_addJob 3 = .ok (.if_icmp .eq 21, 3) := dk_159 0 21 (dk_at dksX3_addJob_0 3 rfl rfl)
theorem dX3_addJob_6 : decode cX3_addJob 6 = .ok (.iload_n 1, 1) := dk_27 (dk_at dksX3_addJob_0 6 rfl rfl)
theorem dX3_addJob_7 : decode cX3_addJob 7 = .ok (.bipush 112, 2) := dk_16 112 (dk_at dksX3_addJob_0 7 rfl rfl)
theorem dX3_addJob_9 : decode cX3_addJob 9 = .ok (.if_icmp .eq 15, 3) := dk_159 0 15 (dk_at dksX3_addJob_0 9 rfl rfl)
theorem dX3_addJob_12 : decode cX3_addJob 12 = .ok (.iload_n 1, 1) := dk_27 (dk_at dksX3_addJob_0 12 rfl rfl)
theorem dX3_addJob_13 : decode cX3_addJob 13 = .ok (.bipush 119, 2) := dk_16 119 (dk_at dksX3_addJob_0 13 rfl rfl)
theorem dX3_addJob_15 : decode cX3_addJob 15 = .ok (.if_icmp .eq 9, 3) := dk_159 0 9 (dk_at dksX3_addJob_0 15 rfl rfl)
theorem dX3_addJob_18 : decode cX3_addJob 18 = .ok (.aload_n 0, 1) := dk_42 (dk_at dksX3_addJob_0 18 rfl rfl)
theorem dX3_addJob_19 : decode cX3_addJob 19 = .ok (.iconst 1, 1) := dk_4 (dk_at dksX3_addJob_0 19 rfl rfl)
theorem dX3_addJob_20 : decode cX3_addJob 20 = .ok (.invokevirtual 101, 3) := dk_182 0 101 (dk_at dksX3_addJob_0 20 rfl rfl)
theorem dX3_addJob_23 : decode cX3_addJob 23 = .ok (.ireturn, 1) := dk_172 (dk_at dksX3_addJob_0 23 rfl rfl)
theorem dX3_addJob_24 : decode cX3_addJob 24 = .ok (.aload_n 0, 1) := dk_42 (dk_at dksX3_addJob_1 0 rfl rfl)
theorem dX3_addJob_25 : decode cX3_addJob 25 = .ok (.getfield 68, 3) := dk_180 0 68 (dk_at dksX3_addJob_1 1 rfl rfl)
theorem dX3_addJob_28 : decode cX3_addJob 28 = .ok (.iconst 4, 1) := dk_7 (dk_at dksX3_addJob_1 4 rfl rfl)
theorem dX3_addJob_29 : decode cX3_addJob 29 = .ok (.if_icmp .ne 9, 3) := dk_160 0 9 (dk_at dksX3_addJob_1 5 rfl rfl)
theorem dX3_addJob_32 : decode cX3_addJob 32 = .ok (.aload_n 0, 1) := dk_42 (dk_at dksX3_addJob_1 8 rfl rfl)
theorem dX3_addJob_33 : decode cX3_addJob 33 = .ok (.iconst 2, 1) := dk_5 (dk_at dksX3_addJob_1 9 rfl rfl)
theorem dX3_addJob_34 : decode cX3_addJob 34 = .ok (.invokevirtual 101, 3) := dk_182 0 101 (dk_at dksX3_addJob_1 10 rfl rfl)
theorem dX3_addJob_37 : decode cX3_addJob 37 = .ok (.ireturn, 1) := dk_172 (dk_at dksX3_addJob_1 13 rfl rfl)
theorem dX3_addJob_38 : decode cX3_addJob 38 = .ok (.aload_n 0, 1) := dk_42 (dk_at dksX3_addJob_1 14 rfl rfl)
theorem dX3_addJob_39 : decode cX3_addJob 39 = .ok (.iconst 0, 1) := dk_3 (dk_at dksX3_addJob_1 15 rfl rfl)
theorem dX3_addJob_40 : decode cX3_addJob 40 = .ok (.putfield 53, 3) := dk_181 0 53 (dk_at dksX3_addJob_1 16 rfl rfl)
theorem dX3_addJob_43 : decode cX3_addJob 43 = .ok (.aload_n 0, 1) := dk_42 (dk_at dksX3_addJob_1 19 rfl rfl)
theorem dX3_addJob_44 : decode cX3_addJob 44 = .ok (.getfield 13, 3) := dk_180 0 13 (dk_at dksX3_addJob_1 20 rfl rfl)
theorem dX3_addJob_47 : decode cX3_addJob 47 = .ok (.aload_n 0, 1) := dk_42 (dk_at dksX3_addJob_1 23 rfl rfl)
theorem dX3_addJob_48 : decode cX3_addJob 48 = .ok (.getfield 68, 3) := dk_180 0 68 (dk_at dksX3_addJob_2 0 rfl rfl)
theorem dX3_addJob_51 : decode cX3_addJob 51 = .ok (.iload_n 1, 1) := dk_27 (dk_at dksX3_addJob_2 3 rfl rfl)
theorem dX3_addJob_52 : decode cX3_addJob 52 = .ok (.iastore, 1) := dk_79 (dk_at dksX3_addJob_2 4 rfl rfl)
theorem dX3_addJob_53 : decode cX3_addJob 53 = .ok (.aload_n 0, 1) := dk_42 (dk_at dksX3_addJob_2 5 rfl rfl)
theorem dX3_addJob_54 : decode cX3_addJob 54 = .ok (.dup, 1) := dk_89 (dk_at dksX3_addJob_2 6 rfl rfl)
theorem dX3_addJob_55 : decode cX3_addJob 55 = .ok (.getfield 68, 3) := dk_180 0 68 (dk_at dksX3_addJob_2 7 rfl rfl)
theorem dX3_addJob_58 : decode cX3_addJob 58 = .ok (.iconst 1, 1) := dk_4 (dk_at dksX3_addJob_2 10 rfl rfl)
theorem dX3_addJob_59 : decode cX3_addJob 59 = .ok (.iadd, 1) := dk_96 (dk_at dksX3_addJob_2 11 rfl rfl)
theorem dX3_addJob_60 : decode cX3_addJob 60 = .ok (.putfield 68, 3) := dk_181 0 68 (dk_at dksX3_addJob_2 12 rfl rfl)
theorem dX3_addJob_63 : decode cX3_addJob 63 = .ok (.aload_n 0, 1) := dk_42 (dk_at dksX3_addJob_2 15 rfl rfl)
theorem dX3_addJob_64 : decode cX3_addJob 64 = .ok (.getfield 68, 3) := dk_180 0 68 (dk_at dksX3_addJob_2 16 rfl rfl)
theorem dX3_addJob_67 : decode cX3_addJob 67 = .ok (.iconst 1, 1) := dk_4 (dk_at dksX3_addJob_2 19 rfl rfl)
theorem dX3_addJob_68 : decode cX3_addJob 68 = .ok (.isub, 1) := dk_100 (dk_at dksX3_addJob_2 20 rfl rfl)
theorem dX3_addJob_69 : decode cX3_addJob 69 = .ok (.ireturn, 1) := dk_172 (dk_at dksX3_addJob_2 21 rfl rfl)
abbrev cX3_addPage : ByteArray := prog_15_method_24_code
def yX3_addPage : MethodName := ⟨RX3, "addPage", "(II)I"⟩
def dkwX3_addPage_4 : List UInt8 := [42, 180, 0, 16, 27, 92, 46, 4, 96, 79, 42, 180, 0, 16, 27, 46, 172]
abbrev dktX3_addPage_4 : List UInt8 := dkwX3_addPage_4 ++ []
def dkwX3_addPage_3 : List UInt8 := [87, 132, 3, 1, 167, 255, 240, 42, 180, 0, 19, 16, 16, 27, 104, 42, 180, 0, 16, 27, 46, 96, 28, 79]
abbrev dktX3_addPage_3 : List UInt8 := dkwX3_addPage_3 ++ dktX3_addPage_4
def dkwX3_addPage_2 : List UInt8 := [5, 182, 0, 101, 172, 42, 3, 181, 0, 53, 3, 62, 29, 16, 8, 162, 0, 16, 42, 27, 29, 182, 0, 110]
abbrev dktX3_addPage_2 : List UInt8 := dkwX3_addPage_2 ++ dktX3_addPage_3
def dkwX3_addPage_1 : List UInt8 := [184, 0, 60, 154, 0, 9, 42, 4, 182, 0, 101, 172, 42, 180, 0, 16, 27, 46, 16, 16, 160, 0, 9, 42]
abbrev dktX3_addPage_1 : List UInt8 := dkwX3_addPage_1 ++ dktX3_addPage_2
def dkwX3_addPage_0 : List UInt8 := [27, 3, 42, 180, 0, 68, 4, 100, 184, 0, 60, 153, 0, 17, 28, 3, 42, 180, 0, 57, 4, 100]
abbrev dktX3_addPage_0 : List UInt8 := dkwX3_addPage_0 ++ dktX3_addPage_1
theorem dksX3_addPage_0 : cX3_addPage.data.toList.drop 0 = dktX3_addPage_0 := by decide +kernel
theorem dksX3_addPage_1 : cX3_addPage.data.toList.drop 22 = dktX3_addPage_1 := dk_seg dksX3_addPage_0 22 rfl rfl
theorem dksX3_addPage_2 : cX3_addPage.data.toList.drop 46 = dktX3_addPage_2 := dk_seg dksX3_addPage_1 24 rfl rfl
theorem dksX3_addPage_3 : cX3_addPage.data.toList.drop 70 = dktX3_addPage_3 := dk_seg dksX3_addPage_2 24 rfl rfl
theorem dksX3_addPage_4 : cX3_addPage.data.toList.drop 94 = dktX3_addPage_4 := dk_seg dksX3_addPage_3 24 rfl rfl
theorem dX3_addPage_0 : decode cX3_addPage 0 = .ok (.iload_n 1, 1) := dk_27 (dk_at dksX3_addPage_0 0 rfl rfl)
theorem dX3_addPage_1 : decode cX3_addPage 1 = .ok (.iconst 0, 1) := dk_3 (dk_at dksX3_addPage_0 1 rfl rfl)
theorem dX3_addPage_2 : decode cX3_addPage 2 = .ok (.aload_n 0, 1) := dk_42 (dk_at dksX3_addPage_0 2 rfl rfl)
theorem dX3_addPage_3 : decode cX3_addPage 3 = .ok (.getfield 68, 3) := dk_180 0 68 (dk_at dksX3_addPage_0 3 rfl rfl)
theorem dX3_addPage_6 : decode cX3_addPage 6 = .ok (.iconst 1, 1) := dk_4 (dk_at dksX3_addPage_0 6 rfl rfl)
theorem dX3_addPage_7 : decode cX3_addPage 7 = .ok (.isub, 1) := dk_100 (dk_at dksX3_addPage_0 7 rfl rfl)
theorem dX3_addPage_8 : decode cX3_addPage 8 = .ok (.invokestatic 60, 3) := dk_184 0 60 (dk_at dksX3_addPage_0 8 rfl rfl)
theorem dX3_addPage_11 : decode cX3_addPage 11 = .ok (.ifCond .eq 17, 3) := dk_153 0 17 (dk_at dksX3_addPage_0 11 rfl rfl)
theorem dX3_addPage_14 : decode cX3_addPage 14 = .ok (.iload_n 2, 1) := dk_28 (dk_at dksX3_addPage_0 14 rfl rfl)
theorem dX3_addPage_15 : decode cX3_addPage 15 = .ok (.iconst 0, 1) := dk_3 (dk_at dksX3_addPage_0 15 rfl rfl)
theorem dX3_addPage_16 : decode cX3_addPage 16 = .ok (.aload_n 0, 1) := dk_42 (dk_at dksX3_addPage_0 16 rfl rfl)
theorem dX3_addPage_17 : decode cX3_addPage 17 = .ok (.getfield 57, 3) := dk_180 0 57 (dk_at dksX3_addPage_0 17 rfl rfl)
theorem dX3_addPage_20 : decode cX3_addPage 20 = .ok (.iconst 1, 1) := dk_4 (dk_at dksX3_addPage_0 20 rfl rfl)
theorem dX3_addPage_21 : decode cX3_addPage 21 = .ok (.isub, 1) := dk_100 (dk_at dksX3_addPage_0 21 rfl rfl)
theorem dX3_addPage_22 : decode cX3_addPage 22 = .ok (.invokestatic 60, 3) := dk_184 0 60 (dk_at dksX3_addPage_1 0 rfl rfl)
theorem dX3_addPage_25 : decode cX3_addPage 25 = .ok (.ifCond .ne 9, 3) := dk_154 0 9 (dk_at dksX3_addPage_1 3 rfl rfl)
theorem dX3_addPage_28 : decode cX3_addPage 28 = .ok (.aload_n 0, 1) := dk_42 (dk_at dksX3_addPage_1 6 rfl rfl)
theorem dX3_addPage_29 : decode cX3_addPage 29 = .ok (.iconst 1, 1) := dk_4 (dk_at dksX3_addPage_1 7 rfl rfl)
theorem dX3_addPage_30 : decode cX3_addPage 30 = .ok (.invokevirtual 101, 3) := dk_182 0 101 (dk_at dksX3_addPage_1 8 rfl rfl)
theorem dX3_addPage_33 : decode cX3_addPage 33 = .ok (.ireturn, 1) := dk_172 (dk_at dksX3_addPage_1 11 rfl rfl)
theorem dX3_addPage_34 : decode cX3_addPage 34 = .ok (.aload_n 0, 1) := dk_42 (dk_at dksX3_addPage_1 12 rfl rfl)
theorem dX3_addPage_35 : decode cX3_addPage 35 = .ok (.getfield 16, 3) := dk_180 0 16 (dk_at dksX3_addPage_1 13 rfl rfl)
theorem dX3_addPage_38 : decode cX3_addPage 38 = .ok (.iload_n 1, 1) := dk_27 (dk_at dksX3_addPage_1 16 rfl rfl)
theorem dX3_addPage_39 : decode cX3_addPage 39 = .ok (.iaload, 1) := dk_46 (dk_at dksX3_addPage_1 17 rfl rfl)
theorem dX3_addPage_40 : decode cX3_addPage 40 = .ok (.bipush 16, 2) := dk_16 16 (dk_at dksX3_addPage_1 18 rfl rfl)
theorem dX3_addPage_42 : decode cX3_addPage 42 = .ok (.if_icmp .ne 9, 3) := dk_160 0 9 (dk_at dksX3_addPage_1 20 rfl rfl)
theorem dX3_addPage_45 : decode cX3_addPage 45 = .ok (.aload_n 0, 1) := dk_42 (dk_at dksX3_addPage_1 23 rfl rfl)
theorem dX3_addPage_46 : decode cX3_addPage 46 = .ok (.iconst 2, 1) := dk_5 (dk_at dksX3_addPage_2 0 rfl rfl)
theorem dX3_addPage_47 : decode cX3_addPage 47 = .ok (.invokevirtual 101, 3) := dk_182 0 101 (dk_at dksX3_addPage_2 1 rfl rfl)
theorem dX3_addPage_50 : decode cX3_addPage 50 = .ok (.ireturn, 1) := dk_172 (dk_at dksX3_addPage_2 4 rfl rfl)
theorem dX3_addPage_51 : decode cX3_addPage 51 = .ok (.aload_n 0, 1) := dk_42 (dk_at dksX3_addPage_2 5 rfl rfl)
theorem dX3_addPage_52 : decode cX3_addPage 52 = .ok (.iconst 0, 1) := dk_3 (dk_at dksX3_addPage_2 6 rfl rfl)
theorem dX3_addPage_53 : decode cX3_addPage 53 = .ok (.putfield 53, 3) := dk_181 0 53 (dk_at dksX3_addPage_2 7 rfl rfl)
theorem dX3_addPage_56 : decode cX3_addPage 56 = .ok (.iconst 0, 1) := dk_3 (dk_at dksX3_addPage_2 10 rfl rfl)
theorem dX3_addPage_57 : decode cX3_addPage 57 = .ok (.istore_n 3, 1) := dk_62 (dk_at dksX3_addPage_2 11 rfl rfl)
theorem dX3_addPage_58 : decode cX3_addPage 58 = .ok (.iload_n 3, 1) := dk_29 (dk_at dksX3_addPage_2 12 rfl rfl)
theorem dX3_addPage_59 : decode cX3_addPage 59 = .ok (.bipush 8, 2) := dk_16 8 (dk_at dksX3_addPage_2 13 rfl rfl)
theorem dX3_addPage_61 : decode cX3_addPage 61 = .ok (.if_icmp .ge 16, 3) := dk_162 0 16 (dk_at dksX3_addPage_2 15 rfl rfl)
theorem dX3_addPage_64 : decode cX3_addPage 64 = .ok (.aload_n 0, 1) := dk_42 (dk_at dksX3_addPage_2 18 rfl rfl)
theorem dX3_addPage_65 : decode cX3_addPage 65 = .ok (.iload_n 1, 1) := dk_27 (dk_at dksX3_addPage_2 19 rfl rfl)
theorem dX3_addPage_66 : decode cX3_addPage 66 = .ok (.iload_n 3, 1) := dk_29 (dk_at dksX3_addPage_2 20 rfl rfl)
theorem dX3_addPage_67 : decode cX3_addPage 67 = .ok (.invokevirtual 110, 3) := dk_182 0 110 (dk_at dksX3_addPage_2 21 rfl rfl)
theorem dX3_addPage_70 : decode cX3_addPage 70 = .ok (.pop, 1) := dk_87 (dk_at dksX3_addPage_3 0 rfl rfl)
theorem dX3_addPage_71 : decode cX3_addPage 71 = .ok (.iinc 3 1, 3) := dk_132 3 1 (dk_at dksX3_addPage_3 1 rfl rfl)
theorem dX3_addPage_74 : decode cX3_addPage 74 = .ok (.goto (-16), 3) := dk_167 255 240 (dk_at dksX3_addPage_3 4 rfl rfl)
theorem dX3_addPage_77 : decode cX3_addPage 77 = .ok (.aload_n 0, 1) := dk_42 (dk_at dksX3_addPage_3 7 rfl rfl)
theorem dX3_addPage_78 : decode cX3_addPage 78 = .ok (.getfield 19, 3) := dk_180 0 19 (dk_at dksX3_addPage_3 8 rfl rfl)
theorem dX3_addPage_81 : decode cX3_addPage 81 = .ok (.bipush 16, 2) := dk_16 16 (dk_at dksX3_addPage_3 11 rfl rfl)
theorem dX3_addPage_83 : decode cX3_addPage 83 = .ok (.iload_n 1, 1) := dk_27 (dk_at dksX3_addPage_3 13 rfl rfl)
theorem dX3_addPage_84 : decode cX3_addPage 84 = .ok (.imul, 1) := dk_104 (dk_at dksX3_addPage_3 14 rfl rfl)
theorem dX3_addPage_85 : decode cX3_addPage 85 = .ok (.aload_n 0, 1) := dk_42 (dk_at dksX3_addPage_3 15 rfl rfl)
theorem dX3_addPage_86 : decode cX3_addPage 86 = .ok (.getfield 16, 3) := dk_180 0 16 (dk_at dksX3_addPage_3 16 rfl rfl)
theorem dX3_addPage_89 : decode cX3_addPage 89 = .ok (.iload_n 1, 1) := dk_27 (dk_at dksX3_addPage_3 19 rfl rfl)
theorem dX3_addPage_90 : decode cX3_addPage 90 = .ok (.iaload, 1) := dk_46 (dk_at dksX3_addPage_3 20 rfl rfl)
theorem dX3_addPage_91 : decode cX3_addPage 91 = .ok (.iadd, 1) := dk_96 (dk_at dksX3_addPage_3 21 rfl rfl)
theorem dX3_addPage_92 : decode cX3_addPage 92 = .ok (.iload_n 2, 1) := dk_28 (dk_at dksX3_addPage_3 22 rfl rfl)
theorem dX3_addPage_93 : decode cX3_addPage 93 = .ok (.iastore, 1) := dk_79 (dk_at dksX3_addPage_3 23 rfl rfl)
theorem dX3_addPage_94 : decode cX3_addPage 94 = .ok (.aload_n 0, 1) := dk_42 (dk_at dksX3_addPage_4 0 rfl rfl)
theorem dX3_addPage_95 : decode cX3_addPage 95 = .ok (.getfield 16, 3) := dk_180 0 16 (dk_at dksX3_addPage_4 1 rfl rfl)
theorem dX3_addPage_98 : decode cX3_addPage 98 = .ok (.iload_n 1, 1) := dk_27 (dk_at dksX3_addPage_4 4 rfl rfl)
theorem dX3_addPage_99 : decode cX3_addPage 99 = .ok (.dup2, 1) := dk_92 (dk_at dksX3_addPage_4 5 rfl rfl)
theorem dX3_addPage_100 : decode cX3_addPage 100 = .ok (.iaload, 1) := dk_46 (dk_at dksX3_addPage_4 6 rfl rfl)
theorem dX3_addPage_101 : decode cX3_addPage 101 = .ok (.iconst 1, 1) := dk_4 (dk_at dksX3_addPage_4 7 rfl rfl)
theorem dX3_addPage_102 : decode cX3_addPage 102 = .ok (.iadd, 1) := dk_96 (dk_at dksX3_addPage_4 8 rfl rfl)
theorem dX3_addPage_103 : decode cX3_addPage 103 = .ok (.iastore, 1) := dk_79 (dk_at dksX3_addPage_4 9 rfl rfl)
theorem dX3_addPage_104 : decode cX3_addPage 104 = .ok (.aload_n 0, 1) := dk_42 (dk_at dksX3_addPage_4 10 rfl rfl)
theorem dX3_addPage_105 : decode cX3_addPage 105 = .ok (.getfield 16, 3) := dk_180 0 16 (dk_at dksX3_addPage_4 11 rfl rfl)
theorem dX3_addPage_108 : decode cX3_addPage 108 = .ok (.iload_n 1, 1) := dk_27 (dk_at dksX3_addPage_4 14 rfl rfl)
theorem dX3_addPage_109 : decode cX3_addPage 109 = .ok (.iaload, 1) := dk_46 (dk_at dksX3_addPage_4 15 rfl rfl)
theorem dX3_addPage_110 : decode cX3_addPage 110 = .ok (.ireturn, 1) := dk_172 (dk_at dksX3_addPage_4 16 rfl rfl)
abbrev cX3_pages : ByteArray := prog_15_method_25_code
def yX3_pages : MethodName := ⟨RX3, "pages", "(I)I"⟩
def dkwX3_pages_1 : List UInt8 := [181, 0, 53, 42, 180, 0, 16, 27, 46, 172]
abbrev dktX3_pages_1 : List UInt8 := dkwX3_pages_1 ++ []
def dkwX3_pages_0 : List UInt8 := [27, 3, 42, 180, 0, 68, 4, 100, 184, 0, 60, 154, 0, 9, 42, 4, 182, 0, 101, 172, 42, 3]
abbrev dktX3_pages_0 : List UInt8 := dkwX3_pages_0 ++ dktX3_pages_1
theorem dksX3_pages_0 : cX3_pages.data.toList.drop 0 = dktX3_pages_0 := by decide +kernel
theorem dksX3_pages_1 : cX3_pages.data.toList.drop 22 = dktX3_pages_1 := dk_seg dksX3_pages_0 22 rfl rfl
theorem dX3_pages_0 : decode cX3_pages 0 = .ok (.iload_n 1, 1) := dk_27 (dk_at dksX3_pages_0 0 rfl rfl)
theorem dX3_pages_1 : decode cX3_pages 1 = .ok (.iconst 0, 1) := dk_3 (dk_at dksX3_pages_0 1 rfl rfl)
theorem dX3_pages_2 : decode cX3_pages 2 = .ok (.aload_n 0, 1) := dk_42 (dk_at dksX3_pages_0 2 rfl rfl)
theorem dX3_pages_3 : decode cX3_pages 3 = .ok (.getfield 68, 3) := dk_180 0 68 (dk_at dksX3_pages_0 3 rfl rfl)
theorem dX3_pages_6 : decode cX3_pages 6 = .ok (.iconst 1, 1) := dk_4 (dk_at dksX3_pages_0 6 rfl rfl)
theorem dX3_pages_7 : decode cX3_pages 7 = .ok (.isub, 1) := dk_100 (dk_at dksX3_pages_0 7 rfl rfl)
theorem dX3_pages_8 : decode cX3_pages 8 = .ok (.invokestatic 60, 3) := dk_184 0 60 (dk_at dksX3_pages_0 8 rfl rfl)
theorem dX3_pages_11 : decode cX3_pages 11 = .ok (.ifCond .ne 9, 3) := dk_154 0 9 (dk_at dksX3_pages_0 11 rfl rfl)
theorem dX3_pages_14 : decode cX3_pages 14 = .ok (.aload_n 0, 1) := dk_42 (dk_at dksX3_pages_0 14 rfl rfl)
theorem dX3_pages_15 : decode cX3_pages 15 = .ok (.iconst 1, 1) := dk_4 (dk_at dksX3_pages_0 15 rfl rfl)
theorem dX3_pages_16 : decode cX3_pages 16 = .ok (.invokevirtual 101, 3) := dk_182 0 101 (dk_at dksX3_pages_0 16 rfl rfl)
theorem dX3_pages_19 : decode cX3_pages 19 = .ok (.ireturn, 1) := dk_172 (dk_at dksX3_pages_0 19 rfl rfl)
theorem dX3_pages_20 : decode cX3_pages 20 = .ok (.aload_n 0, 1) := dk_42 (dk_at dksX3_pages_0 20 rfl rfl)
theorem dX3_pages_21 : decode cX3_pages 21 = .ok (.iconst 0, 1) := dk_3 (dk_at dksX3_pages_0 21 rfl rfl)
theorem dX3_pages_22 : decode cX3_pages 22 = .ok (.putfield 53, 3) := dk_181 0 53 (dk_at dksX3_pages_1 0 rfl rfl)
theorem dX3_pages_25 : decode cX3_pages 25 = .ok (.aload_n 0, 1) := dk_42 (dk_at dksX3_pages_1 3 rfl rfl)
theorem dX3_pages_26 : decode cX3_pages 26 = .ok (.getfield 16, 3) := dk_180 0 16 (dk_at dksX3_pages_1 4 rfl rfl)
theorem dX3_pages_29 : decode cX3_pages 29 = .ok (.iload_n 1, 1) := dk_27 (dk_at dksX3_pages_1 7 rfl rfl)
theorem dX3_pages_30 : decode cX3_pages 30 = .ok (.iaload, 1) := dk_46 (dk_at dksX3_pages_1 8 rfl rfl)
theorem dX3_pages_31 : decode cX3_pages 31 = .ok (.ireturn, 1) := dk_172 (dk_at dksX3_pages_1 9 rfl rfl)
abbrev cX3_sheets : ByteArray := prog_15_method_26_code
def yX3_sheets : MethodName := ⟨RX3, "sheets", "(I)I"⟩
def dkwX3_sheets_0 : List UInt8 := [42, 27, 182, 0, 75, 153, 0, 11, 42, 27, 182, 0, 78, 167, 0, 4, 3, 172]
abbrev dktX3_sheets_0 : List UInt8 := dkwX3_sheets_0 ++ []
theorem dksX3_sheets_0 : cX3_sheets.data.toList.drop 0 = dktX3_sheets_0 := by decide +kernel
theorem dX3_sheets_0 : decode cX3_sheets 0 = .ok (.aload_n 0, 1) := dk_42 (dk_at dksX3_sheets_0 0 rfl rfl)
theorem dX3_sheets_1 : decode cX3_sheets 1 = .ok (.iload_n 1, 1) := dk_27 (dk_at dksX3_sheets_0 1 rfl rfl)
theorem dX3_sheets_2 : decode cX3_sheets 2 = .ok (.invokevirtual 75, 3) := dk_182 0 75 (dk_at dksX3_sheets_0 2 rfl rfl)
theorem dX3_sheets_5 : decode cX3_sheets 5 = .ok (.ifCond .eq 11, 3) := dk_153 0 11 (dk_at dksX3_sheets_0 5 rfl rfl)
theorem dX3_sheets_8 : decode cX3_sheets 8 = .ok (.aload_n 0, 1) := dk_42 (dk_at dksX3_sheets_0 8 rfl rfl)
theorem dX3_sheets_9 : decode cX3_sheets 9 = .ok (.iload_n 1, 1) := dk_27 (dk_at dksX3_sheets_0 9 rfl rfl)
theorem dX3_sheets_10 : decode cX3_sheets 10 = .ok (.invokevirtual 78, 3) := dk_182 0 78 (dk_at dksX3_sheets_0 10 rfl rfl)
theorem dX3_sheets_13 : decode cX3_sheets 13 = .ok (.goto 4, 3) := dk_167 0 4 (dk_at dksX3_sheets_0 13 rfl rfl)
theorem dX3_sheets_16 : decode cX3_sheets 16 = .ok (.iconst 0, 1) := dk_3 (dk_at dksX3_sheets_0 16 rfl rfl)
theorem dX3_sheets_17 : decode cX3_sheets 17 = .ok (.ireturn, 1) := dk_172 (dk_at dksX3_sheets_0 17 rfl rfl)
abbrev cX3_isJob : ByteArray := prog_15_method_9_code
def yX3_isJob : MethodName := ⟨RX3, "isJob", "(I)Z"⟩
def dkwX3_isJob_1 : List UInt8 := [153, 0, 7, 3, 167, 0, 4, 5, 181, 0, 53, 42, 180, 0, 53, 154, 0, 7, 4, 167, 0, 4, 3, 172]
abbrev dktX3_isJob_1 : List UInt8 := dkwX3_isJob_1 ++ []
def dkwX3_isJob_0 : List UInt8 := [42, 27, 3, 42, 180, 0, 68, 4, 100, 184, 0, 60, 154, 0, 7, 4, 167, 0, 16, 42, 27, 182, 0, 71]
abbrev dktX3_isJob_0 : List UInt8 := dkwX3_isJob_0 ++ dktX3_isJob_1
theorem dksX3_isJob_0 : cX3_isJob.data.toList.drop 0 = dktX3_isJob_0 := by decide +kernel
theorem dksX3_isJob_1 : cX3_isJob.data.toList.drop 24 = dktX3_isJob_1 := dk_seg dksX3_isJob_0 24 rfl rfl
theorem dX3_isJob_0 : decode cX3_isJob 0 = .ok (.aload_n 0, 1) := dk_42 (dk_at dksX3_isJob_0 0 rfl rfl)
theorem dX3_isJob_1 : decode cX3_isJob 1 = .ok (.iload_n 1, 1) := dk_27 (dk_at dksX3_isJob_0 1 rfl rfl)
theorem dX3_isJob_2 : decode cX3_isJob 2 = .ok (.iconst 0, 1) := dk_3 (dk_at dksX3_isJob_0 2 rfl rfl)
theorem dX3_isJob_3 : decode cX3_isJob 3 = .ok (.aload_n 0, 1) := dk_42 (dk_at dksX3_isJob_0 3 rfl rfl)
theorem dX3_isJob_4 : decode cX3_isJob 4 = .ok (.getfield 68, 3) := dk_180 0 68 (dk_at dksX3_isJob_0 4 rfl rfl)
theorem dX3_isJob_7 : decode cX3_isJob 7 = .ok (.iconst 1, 1) := dk_4 (dk_at dksX3_isJob_0 7 rfl rfl)
theorem dX3_isJob_8 : decode cX3_isJob 8 = .ok (.isub, 1) := dk_100 (dk_at dksX3_isJob_0 8 rfl rfl)
theorem dX3_isJob_9 : decode cX3_isJob 9 = .ok (.invokestatic 60, 3) := dk_184 0 60 (dk_at dksX3_isJob_0 9 rfl rfl)
theorem dX3_isJob_12 : decode cX3_isJob 12 = .ok (.ifCond .ne 7, 3) := dk_154 0 7 (dk_at dksX3_isJob_0 12 rfl rfl)
theorem dX3_isJob_15 : decode cX3_isJob 15 = .ok (.iconst 1, 1) := dk_4 (dk_at dksX3_isJob_0 15 rfl rfl)
theorem dX3_isJob_16 : decode cX3_isJob 16 = .ok (.goto 16, 3) := dk_167 0 16 (dk_at dksX3_isJob_0 16 rfl rfl)
theorem dX3_isJob_19 : decode cX3_isJob 19 = .ok (.aload_n 0, 1) := dk_42 (dk_at dksX3_isJob_0 19 rfl rfl)
theorem dX3_isJob_20 : decode cX3_isJob 20 = .ok (.iload_n 1, 1) := dk_27 (dk_at dksX3_isJob_0 20 rfl rfl)
theorem dX3_isJob_21 : decode cX3_isJob 21 = .ok (.invokevirtual 71, 3) := dk_182 0 71 (dk_at dksX3_isJob_0 21 rfl rfl)
theorem dX3_isJob_24 : decode cX3_isJob 24 = .ok (.ifCond .eq 7, 3) := dk_153 0 7 (dk_at dksX3_isJob_1 0 rfl rfl)
theorem dX3_isJob_27 : decode cX3_isJob 27 = .ok (.iconst 0, 1) := dk_3 (dk_at dksX3_isJob_1 3 rfl rfl)
theorem dX3_isJob_28 : decode cX3_isJob 28 = .ok (.goto 4, 3) := dk_167 0 4 (dk_at dksX3_isJob_1 4 rfl rfl)
theorem dX3_isJob_31 : decode cX3_isJob 31 = .ok (.iconst 2, 1) := dk_5 (dk_at dksX3_isJob_1 7 rfl rfl)
theorem dX3_isJob_32 : decode cX3_isJob 32 = .ok (.putfield 53, 3) := dk_181 0 53 (dk_at dksX3_isJob_1 8 rfl rfl)
theorem dX3_isJob_35 : decode cX3_isJob 35 = .ok (.aload_n 0, 1) := dk_42 (dk_at dksX3_isJob_1 11 rfl rfl)
theorem dX3_isJob_36 : decode cX3_isJob 36 = .ok (.getfield 53, 3) := dk_180 0 53 (dk_at dksX3_isJob_1 12 rfl rfl)
theorem dX3_isJob_39 : decode cX3_isJob 39 = .ok (.ifCond .ne 7, 3) := dk_154 0 7 (dk_at dksX3_isJob_1 15 rfl rfl)
theorem dX3_isJob_42 : decode cX3_isJob 42 = .ok (.iconst 1, 1) := dk_4 (dk_at dksX3_isJob_1 18 rfl rfl)
theorem dX3_isJob_43 : decode cX3_isJob 43 = .ok (.goto 4, 3) := dk_167 0 4 (dk_at dksX3_isJob_1 19 rfl rfl)
theorem dX3_isJob_46 : decode cX3_isJob 46 = .ok (.iconst 0, 1) := dk_3 (dk_at dksX3_isJob_1 22 rfl rfl)
theorem dX3_isJob_47 : decode cX3_isJob 47 = .ok (.ireturn, 1) := dk_172 (dk_at dksX3_isJob_1 23 rfl rfl)
abbrev cX3_pageAt : ByteArray := prog_15_method_27_code
def yX3_pageAt : MethodName := ⟨RX3, "pageAt", "(III)I"⟩
def dkwX3_pageAt_1 : List UInt8 := [153, 0, 13, 42, 27, 28, 29, 182, 0, 81, 167, 0, 8, 42, 6, 182, 0, 101, 172]
abbrev dktX3_pageAt_1 : List UInt8 := dkwX3_pageAt_1 ++ []
def dkwX3_pageAt_0 : List UInt8 := [42, 27, 28, 182, 0, 114, 154, 0, 5, 3, 172, 29, 3, 42, 27, 182, 0, 64, 4, 100, 184, 0, 60]
abbrev dktX3_pageAt_0 : List UInt8 := dkwX3_pageAt_0 ++ dktX3_pageAt_1
theorem dksX3_pageAt_0 : cX3_pageAt.data.toList.drop 0 = dktX3_pageAt_0 := by decide +kernel
theorem dksX3_pageAt_1 : cX3_pageAt.data.toList.drop 23 = dktX3_pageAt_1 := dk_seg dksX3_pageAt_0 23 rfl rfl
theorem dX3_pageAt_0 : decode cX3_pageAt 0 = .ok (.aload_n 0, 1) := dk_42 (dk_at dksX3_pageAt_0 0 rfl rfl)
theorem dX3_pageAt_1 : decode cX3_pageAt 1 = .ok (.iload_n 1, 1) := dk_27 (dk_at dksX3_pageAt_0 1 rfl rfl)
theorem dX3_pageAt_2 : decode cX3_pageAt 2 = .ok (.iload_n 2, 1) := dk_28 (dk_at dksX3_pageAt_0 2 rfl rfl)
theorem dX3_pageAt_3 : decode cX3_pageAt 3 = .ok (.invokevirtual 114, 3) := dk_182 0 114 (dk_at dksX3_pageAt_0 3 rfl rfl)
theorem dX3_pageAt_6 : decode cX3_pageAt 6 = .ok (.ifCond .ne 5, 3) := dk_154 0 5 (dk_at dksX3_pageAt_0 6 rfl rfl)
theorem dX3_pageAt_9 : decode cX3_pageAt 9 = .ok (.iconst 0, 1) := dk_3 (dk_at dksX3_pageAt_0 9 rfl rfl)
theorem dX3_pageAt_10 : decode cX3_pageAt 10 = .ok (.ireturn, 1) := dk_172 (dk_at dksX3_pageAt_0 10 rfl rfl)
theorem dX3_pageAt_11 : decode cX3_pageAt 11 = .ok (.iload_n 3, 1) := dk_29 (dk_at dksX3_pageAt_0 11 rfl rfl)
theorem dX3_pageAt_12 : decode cX3_pageAt 12 = .ok (.iconst 0, 1) := dk_3 (dk_at dksX3_pageAt_0 12 rfl rfl)
theorem dX3_pageAt_13 : decode cX3_pageAt 13 = .ok (.aload_n 0, 1) := dk_42 (dk_at dksX3_pageAt_0 13 rfl rfl)
theorem dX3_pageAt_14 : decode cX3_pageAt 14 = .ok (.iload_n 1, 1) := dk_27 (dk_at dksX3_pageAt_0 14 rfl rfl)
theorem dX3_pageAt_15 : decode cX3_pageAt 15 = .ok (.invokevirtual 64, 3) := dk_182 0 64 (dk_at dksX3_pageAt_0 15 rfl rfl)
theorem dX3_pageAt_18 : decode cX3_pageAt 18 = .ok (.iconst 1, 1) := dk_4 (dk_at dksX3_pageAt_0 18 rfl rfl)
theorem dX3_pageAt_19 : decode cX3_pageAt 19 = .ok (.isub, 1) := dk_100 (dk_at dksX3_pageAt_0 19 rfl rfl)
theorem dX3_pageAt_20 : decode cX3_pageAt 20 = .ok (.invokestatic 60, 3) := dk_184 0 60 (dk_at dksX3_pageAt_0 20 rfl rfl)
theorem dX3_pageAt_23 : decode cX3_pageAt 23 = .ok (.ifCond .eq 13, 3) := dk_153 0 13 (dk_at dksX3_pageAt_1 0 rfl rfl)
theorem dX3_pageAt_26 : decode cX3_pageAt 26 = .ok (.aload_n 0, 1) := dk_42 (dk_at dksX3_pageAt_1 3 rfl rfl)
theorem dX3_pageAt_27 : decode cX3_pageAt 27 = .ok (.iload_n 1, 1) := dk_27 (dk_at dksX3_pageAt_1 4 rfl rfl)
theorem dX3_pageAt_28 : decode cX3_pageAt 28 = .ok (.iload_n 2, 1) := dk_28 (dk_at dksX3_pageAt_1 5 rfl rfl)
theorem dX3_pageAt_29 : decode cX3_pageAt 29 = .ok (.iload_n 3, 1) := dk_29 (dk_at dksX3_pageAt_1 6 rfl rfl)
theorem dX3_pageAt_30 : decode cX3_pageAt 30 = .ok (.invokevirtual 81, 3) := dk_182 0 81 (dk_at dksX3_pageAt_1 7 rfl rfl)
theorem dX3_pageAt_33 : decode cX3_pageAt 33 = .ok (.goto 8, 3) := dk_167 0 8 (dk_at dksX3_pageAt_1 10 rfl rfl)
theorem dX3_pageAt_36 : decode cX3_pageAt 36 = .ok (.aload_n 0, 1) := dk_42 (dk_at dksX3_pageAt_1 13 rfl rfl)
theorem dX3_pageAt_37 : decode cX3_pageAt 37 = .ok (.iconst 3, 1) := dk_6 (dk_at dksX3_pageAt_1 14 rfl rfl)
theorem dX3_pageAt_38 : decode cX3_pageAt 38 = .ok (.invokevirtual 101, 3) := dk_182 0 101 (dk_at dksX3_pageAt_1 15 rfl rfl)
theorem dX3_pageAt_41 : decode cX3_pageAt 41 = .ok (.ireturn, 1) := dk_172 (dk_at dksX3_pageAt_1 18 rfl rfl)
abbrev cX3_isSheet : ByteArray := prog_15_method_10_code
def yX3_isSheet : MethodName := ⟨RX3, "isSheet", "(II)Z"⟩
def dkwX3_isSheet_1 : List UInt8 := [6, 181, 0, 53, 42, 180, 0, 53, 154, 0, 7, 4, 167, 0, 4, 3, 172]
abbrev dktX3_isSheet_1 : List UInt8 := dkwX3_isSheet_1 ++ []
def dkwX3_isSheet_0 : List UInt8 := [42, 27, 182, 0, 75, 153, 0, 23, 28, 3, 42, 27, 182, 0, 78, 4, 100, 184, 0, 60, 154, 0, 8, 42]
abbrev dktX3_isSheet_0 : List UInt8 := dkwX3_isSheet_0 ++ dktX3_isSheet_1
theorem dksX3_isSheet_0 : cX3_isSheet.data.toList.drop 0 = dktX3_isSheet_0 := by decide +kernel
theorem dksX3_isSheet_1 : cX3_isSheet.data.toList.drop 24 = dktX3_isSheet_1 := dk_seg dksX3_isSheet_0 24 rfl rfl
theorem dX3_isSheet_0 : decode cX3_isSheet 0 = .ok (.aload_n 0, 1) := dk_42 (dk_at dksX3_isSheet_0 0 rfl rfl)
theorem dX3_isSheet_1 : decode cX3_isSheet 1 = .ok (.iload_n 1, 1) := dk_27 (dk_at dksX3_isSheet_0 1 rfl rfl)
theorem dX3_isSheet_2 : decode cX3_isSheet 2 = .ok (.invokevirtual 75, 3) := dk_182 0 75 (dk_at dksX3_isSheet_0 2 rfl rfl)
theorem dX3_isSheet_5 : decode cX3_isSheet 5 = .ok (.ifCond .eq 23, 3) := dk_153 0 23 (dk_at dksX3_isSheet_0 5 rfl rfl)
theorem dX3_isSheet_8 : decode cX3_isSheet 8 = .ok (.iload_n 2, 1) := dk_28 (dk_at dksX3_isSheet_0 8 rfl rfl)
theorem dX3_isSheet_9 : decode cX3_isSheet 9 = .ok (.iconst 0, 1) := dk_3 (dk_at dksX3_isSheet_0 9 rfl rfl)
theorem dX3_isSheet_10 : decode cX3_isSheet 10 = .ok (.aload_n 0, 1) := dk_42 (dk_at dksX3_isSheet_0 10 rfl rfl)
theorem dX3_isSheet_11 : decode cX3_isSheet 11 = .ok (.iload_n 1, 1) := dk_27 (dk_at dksX3_isSheet_0 11 rfl rfl)
theorem dX3_isSheet_12 : decode cX3_isSheet 12 = .ok (.invokevirtual 78, 3) := dk_182 0 78 (dk_at dksX3_isSheet_0 12 rfl rfl)
theorem dX3_isSheet_15 : decode cX3_isSheet 15 = .ok (.iconst 1, 1) := dk_4 (dk_at dksX3_isSheet_0 15 rfl rfl)
theorem dX3_isSheet_16 : decode cX3_isSheet 16 = .ok (.isub, 1) := dk_100 (dk_at dksX3_isSheet_0 16 rfl rfl)
theorem dX3_isSheet_17 : decode cX3_isSheet 17 = .ok (.invokestatic 60, 3) := dk_184 0 60 (dk_at dksX3_isSheet_0 17 rfl rfl)
theorem dX3_isSheet_20 : decode cX3_isSheet 20 = .ok (.ifCond .ne 8, 3) := dk_154 0 8 (dk_at dksX3_isSheet_0 20 rfl rfl)
theorem dX3_isSheet_23 : decode cX3_isSheet 23 = .ok (.aload_n 0, 1) := dk_42 (dk_at dksX3_isSheet_0 23 rfl rfl)
theorem dX3_isSheet_24 : decode cX3_isSheet 24 = .ok (.iconst 3, 1) := dk_6 (dk_at dksX3_isSheet_1 0 rfl rfl)
theorem dX3_isSheet_25 : decode cX3_isSheet 25 = .ok (.putfield 53, 3) := dk_181 0 53 (dk_at dksX3_isSheet_1 1 rfl rfl)
theorem dX3_isSheet_28 : decode cX3_isSheet 28 = .ok (.aload_n 0, 1) := dk_42 (dk_at dksX3_isSheet_1 4 rfl rfl)
theorem dX3_isSheet_29 : decode cX3_isSheet 29 = .ok (.getfield 53, 3) := dk_180 0 53 (dk_at dksX3_isSheet_1 5 rfl rfl)
theorem dX3_isSheet_32 : decode cX3_isSheet 32 = .ok (.ifCond .ne 7, 3) := dk_154 0 7 (dk_at dksX3_isSheet_1 8 rfl rfl)
theorem dX3_isSheet_35 : decode cX3_isSheet 35 = .ok (.iconst 1, 1) := dk_4 (dk_at dksX3_isSheet_1 11 rfl rfl)
theorem dX3_isSheet_36 : decode cX3_isSheet 36 = .ok (.goto 4, 3) := dk_167 0 4 (dk_at dksX3_isSheet_1 12 rfl rfl)
theorem dX3_isSheet_39 : decode cX3_isSheet 39 = .ok (.iconst 0, 1) := dk_3 (dk_at dksX3_isSheet_1 15 rfl rfl)
theorem dX3_isSheet_40 : decode cX3_isSheet 40 = .ok (.ireturn, 1) := dk_172 (dk_at dksX3_isSheet_1 16 rfl rfl)
abbrev cX3_sheetOf : ByteArray := prog_15_method_28_code
def yX3_sheetOf : MethodName := ⟨RX3, "sheetOf", "(II)I"⟩
def dkwX3_sheetOf_2 : List UInt8 := [132, 4, 1, 167, 255, 229, 132, 3, 1, 167, 255, 211, 42, 6, 182, 0, 101, 172]
abbrev dktX3_sheetOf_2 : List UInt8 := dkwX3_sheetOf_2 ++ []
def dkwX3_sheetOf_1 : List UInt8 := [21, 4, 42, 27, 182, 0, 64, 162, 0, 23, 42, 27, 29, 21, 4, 182, 0, 81, 28, 160, 0, 5, 29, 172]
abbrev dktX3_sheetOf_1 : List UInt8 := dkwX3_sheetOf_1 ++ dktX3_sheetOf_2
def dkwX3_sheetOf_0 : List UInt8 := [42, 27, 182, 0, 75, 154, 0, 5, 3, 172, 3, 62, 29, 42, 27, 182, 0, 78, 162, 0, 42, 3, 54, 4]
abbrev dktX3_sheetOf_0 : List UInt8 := dkwX3_sheetOf_0 ++ dktX3_sheetOf_1
theorem dksX3_sheetOf_0 : cX3_sheetOf.data.toList.drop 0 = dktX3_sheetOf_0 := by decide +kernel
theorem dksX3_sheetOf_1 : cX3_sheetOf.data.toList.drop 24 = dktX3_sheetOf_1 := dk_seg dksX3_sheetOf_0 24 rfl rfl
theorem dksX3_sheetOf_2 : cX3_sheetOf.data.toList.drop 48 = dktX3_sheetOf_2 := dk_seg dksX3_sheetOf_1 24 rfl rfl
theorem dX3_sheetOf_0 : decode cX3_sheetOf 0 = .ok (.aload_n 0, 1) := dk_42 (dk_at dksX3_sheetOf_0 0 rfl rfl)
theorem dX3_sheetOf_1 : decode cX3_sheetOf 1 = .ok (.iload_n 1, 1) := dk_27 (dk_at dksX3_sheetOf_0 1 rfl rfl)
theorem dX3_sheetOf_2 : decode cX3_sheetOf 2 = .ok (.invokevirtual 75, 3) := dk_182 0 75 (dk_at dksX3_sheetOf_0 2 rfl rfl)
theorem dX3_sheetOf_5 : decode cX3_sheetOf 5 = .ok (.ifCond .ne 5, 3) := dk_154 0 5 (dk_at dksX3_sheetOf_0 5 rfl rfl)
theorem dX3_sheetOf_8 : decode cX3_sheetOf 8 = .ok (.iconst 0, 1) := dk_3 (dk_at dksX3_sheetOf_0 8 rfl rfl)
theorem dX3_sheetOf_9 : decode cX3_sheetOf 9 = .ok (.ireturn, 1) := dk_172 (dk_at dksX3_sheetOf_0 9 rfl rfl)
theorem dX3_sheetOf_10 : decode cX3_sheetOf 10 = .ok (.iconst 0, 1) := dk_3 (dk_at dksX3_sheetOf_0 10 rfl rfl)
theorem dX3_sheetOf_11 : decode cX3_sheetOf 11 = .ok (.istore_n 3, 1) := dk_62 (dk_at dksX3_sheetOf_0 11 rfl rfl)
theorem dX3_sheetOf_12 : decode cX3_sheetOf 12 = .ok (.iload_n 3, 1) := dk_29 (dk_at dksX3_sheetOf_0 12 rfl rfl)
theorem dX3_sheetOf_13 : decode cX3_sheetOf 13 = .ok (.aload_n 0, 1) := dk_42 (dk_at dksX3_sheetOf_0 13 rfl rfl)
theorem dX3_sheetOf_14 : decode cX3_sheetOf 14 = .ok (.iload_n 1, 1) := dk_27 (dk_at dksX3_sheetOf_0 14 rfl rfl)
theorem dX3_sheetOf_15 : decode cX3_sheetOf 15 = .ok (.invokevirtual 78, 3) := dk_182 0 78 (dk_at dksX3_sheetOf_0 15 rfl rfl)
theorem dX3_sheetOf_18 : decode cX3_sheetOf 18 = .ok (.if_icmp .ge 42, 3) := dk_162 0 42 (dk_at dksX3_sheetOf_0 18 rfl rfl)
theorem dX3_sheetOf_21 : decode cX3_sheetOf 21 = .ok (.iconst 0, 1) := dk_3 (dk_at dksX3_sheetOf_0 21 rfl rfl)
theorem dX3_sheetOf_22 : decode cX3_sheetOf 22 = .ok (.istore 4, 2) := dk_54 4 (dk_at dksX3_sheetOf_0 22 rfl rfl)
theorem dX3_sheetOf_24 : decode cX3_sheetOf 24 = .ok (.iload 4, 2) := dk_21 4 (dk_at dksX3_sheetOf_1 0 rfl rfl)
theorem dX3_sheetOf_26 : decode cX3_sheetOf 26 = .ok (.aload_n 0, 1) := dk_42 (dk_at dksX3_sheetOf_1 2 rfl rfl)
theorem dX3_sheetOf_27 : decode cX3_sheetOf 27 = .ok (.iload_n 1, 1) := dk_27 (dk_at dksX3_sheetOf_1 3 rfl rfl)
theorem dX3_sheetOf_28 : decode cX3_sheetOf 28 = .ok (.invokevirtual 64, 3) := dk_182 0 64 (dk_at dksX3_sheetOf_1 4 rfl rfl)
theorem dX3_sheetOf_31 : decode cX3_sheetOf 31 = .ok (.if_icmp .ge 23, 3) := dk_162 0 23 (dk_at dksX3_sheetOf_1 7 rfl rfl)
theorem dX3_sheetOf_34 : decode cX3_sheetOf 34 = .ok (.aload_n 0, 1) := dk_42 (dk_at dksX3_sheetOf_1 10 rfl rfl)
theorem dX3_sheetOf_35 : decode cX3_sheetOf 35 = .ok (.iload_n 1, 1) := dk_27 (dk_at dksX3_sheetOf_1 11 rfl rfl)
theorem dX3_sheetOf_36 : decode cX3_sheetOf 36 = .ok (.iload_n 3, 1) := dk_29 (dk_at dksX3_sheetOf_1 12 rfl rfl)
theorem dX3_sheetOf_37 : decode cX3_sheetOf 37 = .ok (.iload 4, 2) := dk_21 4 (dk_at dksX3_sheetOf_1 13 rfl rfl)
theorem dX3_sheetOf_39 : decode cX3_sheetOf 39 = .ok (.invokevirtual 81, 3) := dk_182 0 81 (dk_at dksX3_sheetOf_1 15 rfl rfl)
theorem dX3_sheetOf_42 : decode cX3_sheetOf 42 = .ok (.iload_n 2, 1) := dk_28 (dk_at dksX3_sheetOf_1 18 rfl rfl)
theorem dX3_sheetOf_43 : decode cX3_sheetOf 43 = .ok (.if_icmp .ne 5, 3) := dk_160 0 5 (dk_at dksX3_sheetOf_1 19 rfl rfl)
theorem dX3_sheetOf_46 : decode cX3_sheetOf 46 = .ok (.iload_n 3, 1) := dk_29 (dk_at dksX3_sheetOf_1 22 rfl rfl)
theorem dX3_sheetOf_47 : decode cX3_sheetOf 47 = .ok (.ireturn, 1) := dk_172 (dk_at dksX3_sheetOf_1 23 rfl rfl)
theorem dX3_sheetOf_48 : decode cX3_sheetOf 48 = .ok (.iinc 4 1, 3) := dk_132 4 1 (dk_at dksX3_sheetOf_2 0 rfl rfl)
theorem dX3_sheetOf_51 : decode cX3_sheetOf 51 = .ok (.goto (-27), 3) := dk_167 255 229 (dk_at dksX3_sheetOf_2 3 rfl rfl)
theorem dX3_sheetOf_54 : decode cX3_sheetOf 54 = .ok (.iinc 3 1, 3) := dk_132 3 1 (dk_at dksX3_sheetOf_2 6 rfl rfl)
theorem dX3_sheetOf_57 : decode cX3_sheetOf 57 = .ok (.goto (-45), 3) := dk_167 255 211 (dk_at dksX3_sheetOf_2 9 rfl rfl)
theorem dX3_sheetOf_60 : decode cX3_sheetOf 60 = .ok (.aload_n 0, 1) := dk_42 (dk_at dksX3_sheetOf_2 12 rfl rfl)
theorem dX3_sheetOf_61 : decode cX3_sheetOf 61 = .ok (.iconst 3, 1) := dk_6 (dk_at dksX3_sheetOf_2 13 rfl rfl)
theorem dX3_sheetOf_62 : decode cX3_sheetOf 62 = .ok (.invokevirtual 101, 3) := dk_182 0 101 (dk_at dksX3_sheetOf_2 14 rfl rfl)
theorem dX3_sheetOf_65 : decode cX3_sheetOf 65 = .ok (.ireturn, 1) := dk_172 (dk_at dksX3_sheetOf_2 17 rfl rfl)
abbrev cX3_print : ByteArray := prog_15_method_30_code
def yX3_print : MethodName := ⟨RX3, "print", "(III)I"⟩
def dkwX3_print_9 : List UInt8 := [181, 0, 144, 21, 5, 172]
abbrev dktX3_print_9 : List UInt8 := dkwX3_print_9 ++ []
def dkwX3_print_8 : List UInt8 := [133, 97, 181, 0, 138, 42, 89, 180, 0, 141, 4, 96, 181, 0, 141, 42, 89, 180, 0, 144, 21, 5, 96]
abbrev dktX3_print_8 : List UInt8 := dkwX3_print_8 ++ dktX3_print_9
def dkwX3_print_7 : List UInt8 := [182, 0, 134, 42, 180, 0, 22, 16, 8, 27, 104, 28, 96, 92, 46, 29, 96, 79, 42, 89, 180, 0, 138, 29]
abbrev dktX3_print_7 : List UInt8 := dkwX3_print_7 ++ dktX3_print_8
def dkwX3_print_6 : List UInt8 := [42, 42, 180, 0, 13, 27, 46, 181, 0, 128, 42, 42, 180, 0, 122, 182, 0, 134, 42, 42, 180, 0, 125]
abbrev dktX3_print_6 : List UInt8 := dkwX3_print_6 ++ dktX3_print_7
def dkwX3_print_5 : List UInt8 := [54, 5, 42, 42, 27, 28, 4, 182, 0, 118, 181, 0, 122, 42, 42, 27, 28, 3, 182, 0, 118, 181, 0, 125]
abbrev dktX3_print_5 : List UInt8 := dkwX3_print_5 ++ dktX3_print_6
def dkwX3_print_4 : List UInt8 := [132, 5, 1, 167, 255, 215, 21, 4, 154, 0, 9, 42, 8, 182, 0, 101, 172, 42, 27, 28, 182, 0, 131]
abbrev dktX3_print_4 : List UInt8 := dkwX3_print_4 ++ dktX3_print_5
def dkwX3_print_3 : List UInt8 := [42, 180, 0, 25, 42, 27, 28, 21, 5, 182, 0, 85, 51, 153, 0, 7, 4, 167, 0, 4, 3, 54, 4]
abbrev dktX3_print_3 : List UInt8 := dkwX3_print_3 ++ dktX3_print_4
def dkwX3_print_2 : List UInt8 := [167, 0, 4, 3, 54, 4, 3, 54, 5, 21, 5, 42, 27, 182, 0, 64, 162, 0, 37, 21, 4, 153, 0, 23]
abbrev dktX3_print_2 : List UInt8 := dkwX3_print_2 ++ dktX3_print_3
def dkwX3_print_1 : List UInt8 := [182, 0, 101, 172, 42, 180, 0, 22, 16, 8, 27, 104, 28, 96, 46, 29, 96, 17, 39, 15, 163, 0, 7, 4]
abbrev dktX3_print_1 : List UInt8 := dkwX3_print_1 ++ dktX3_print_2
def dkwX3_print_0 : List UInt8 := [42, 27, 28, 182, 0, 114, 154, 0, 5, 3, 172, 29, 4, 17, 1, 244, 184, 0, 60, 154, 0, 9, 42, 7]
abbrev dktX3_print_0 : List UInt8 := dkwX3_print_0 ++ dktX3_print_1
theorem dksX3_print_0 : cX3_print.data.toList.drop 0 = dktX3_print_0 := by decide +kernel
theorem dksX3_print_1 : cX3_print.data.toList.drop 24 = dktX3_print_1 := dk_seg dksX3_print_0 24 rfl rfl
theorem dksX3_print_2 : cX3_print.data.toList.drop 48 = dktX3_print_2 := dk_seg dksX3_print_1 24 rfl rfl
theorem dksX3_print_3 : cX3_print.data.toList.drop 72 = dktX3_print_3 := dk_seg dksX3_print_2 24 rfl rfl
theorem dksX3_print_4 : cX3_print.data.toList.drop 95 = dktX3_print_4 := dk_seg dksX3_print_3 23 rfl rfl
theorem dksX3_print_5 : cX3_print.data.toList.drop 118 = dktX3_print_5 := dk_seg dksX3_print_4 23 rfl rfl
theorem dksX3_print_6 : cX3_print.data.toList.drop 142 = dktX3_print_6 := dk_seg dksX3_print_5 24 rfl rfl
theorem dksX3_print_7 : cX3_print.data.toList.drop 165 = dktX3_print_7 := dk_seg dksX3_print_6 23 rfl rfl
theorem dksX3_print_8 : cX3_print.data.toList.drop 189 = dktX3_print_8 := dk_seg dksX3_print_7 24 rfl rfl
theorem dksX3_print_9 : cX3_print.data.toList.drop 212 = dktX3_print_9 := dk_seg dksX3_print_8 23 rfl rfl
theorem dX3_print_0 : decode cX3_print 0 = .ok (.aload_n 0, 1) := dk_42 (dk_at dksX3_print_0 0 rfl rfl)
theorem dX3_print_1 : decode cX3_print 1 = .ok (.iload_n 1, 1) := dk_27 (dk_at dksX3_print_0 1 rfl rfl)
theorem dX3_print_2 : decode cX3_print 2 = .ok (.iload_n 2, 1) := dk_28 (dk_at dksX3_print_0 2 rfl rfl)
theorem dX3_print_3 : decode cX3_print 3 = .ok (.invokevirtual 114, 3) := dk_182 0 114 (dk_at dksX3_print_0 3 rfl rfl)
theorem dX3_print_6 : decode cX3_print 6 = .ok (.ifCond .ne 5, 3) := dk_154 0 5 (dk_at dksX3_print_0 6 rfl rfl)
theorem dX3_print_9 : decode cX3_print 9 = .ok (.iconst 0, 1) := dk_3 (dk_at dksX3_print_0 9 rfl rfl)
theorem dX3_print_10 : decode cX3_print 10 = .ok (.ireturn, 1) := dk_172 (dk_at dksX3_print_0 10 rfl rfl)
theorem dX3_print_11 : decode cX3_print 11 = .ok (.iload_n 3, 1) := dk_29 (dk_at dksX3_print_0 11 rfl rfl)
theorem dX3_print_12 : decode cX3_print 12 = .ok (.iconst 1, 1) := dk_4 (dk_at dksX3_print_0 12 rfl rfl)
theorem dX3_print_13 : decode cX3_print 13 = .ok (.sipush 500, 3) := dk_17 1 244 (dk_at dksX3_print_0 13 rfl rfl)
theorem dX3_print_16 : decode cX3_print 16 = .ok (.invokestatic 60, 3) := dk_184 0 60 (dk_at dksX3_print_0 16 rfl rfl)
theorem dX3_print_19 : decode cX3_print 19 = .ok (.ifCond .ne 9, 3) := dk_154 0 9 (dk_at dksX3_print_0 19 rfl rfl)
theorem dX3_print_22 : decode cX3_print 22 = .ok (.aload_n 0, 1) := dk_42 (dk_at dksX3_print_0 22 rfl rfl)
theorem dX3_print_23 : decode cX3_print 23 = .ok (.iconst 4, 1) := dk_7 (dk_at dksX3_print_0 23 rfl rfl)
theorem dX3_print_24 : decode cX3_print 24 = .ok (.invokevirtual 101, 3) := dk_182 0 101 (dk_at dksX3_print_1 0 rfl rfl)
theorem dX3_print_27 : decode cX3_print 27 = .ok (.ireturn, 1) := dk_172 (dk_at dksX3_print_1 3 rfl rfl)
theorem dX3_print_28 : decode cX3_print 28 = .ok (.aload_n 0, 1) := dk_42 (dk_at dksX3_print_1 4 rfl rfl)
theorem dX3_print_29 : decode cX3_print 29 = .ok (.getfield 22, 3) := dk_180 0 22 (dk_at dksX3_print_1 5 rfl rfl)
theorem dX3_print_32 : decode cX3_print 32 = .ok (.bipush 8, 2) := dk_16 8 (dk_at dksX3_print_1 8 rfl rfl)
theorem dX3_print_34 : decode cX3_print 34 = .ok (.iload_n 1, 1) := dk_27 (dk_at dksX3_print_1 10 rfl rfl)
theorem dX3_print_35 : decode cX3_print 35 = .ok (.imul, 1) := dk_104 (dk_at dksX3_print_1 11 rfl rfl)
theorem dX3_print_36 : decode cX3_print 36 = .ok (.iload_n 2, 1) := dk_28 (dk_at dksX3_print_1 12 rfl rfl)
theorem dX3_print_37 : decode cX3_print 37 = .ok (.iadd, 1) := dk_96 (dk_at dksX3_print_1 13 rfl rfl)
theorem dX3_print_38 : decode cX3_print 38 = .ok (.iaload, 1) := dk_46 (dk_at dksX3_print_1 14 rfl rfl)
theorem dX3_print_39 : decode cX3_print 39 = .ok (.iload_n 3, 1) := dk_29 (dk_at dksX3_print_1 15 rfl rfl)
theorem dX3_print_40 : decode cX3_print 40 = .ok (.iadd, 1) := dk_96 (dk_at dksX3_print_1 16 rfl rfl)
theorem dX3_print_41 : decode cX3_print 41 = .ok (.sipush 9999, 3) := dk_17 39 15 (dk_at dksX3_print_1 17 rfl rfl)
theorem dX3_print_44 : decode cX3_print 44 = .ok (.if_icmp .gt 7, 3) := dk_163 0 7 (dk_at dksX3_print_1 20 rfl rfl)
theorem dX3_print_47 : decode cX3_print 47 = .ok (.iconst 1, 1) := dk_4 (dk_at dksX3_print_1 23 rfl rfl)
theorem dX3_print_48 : decode cX3_print 48 = .ok (.goto 4, 3) := dk_167 0 4 (dk_at dksX3_print_2 0 rfl rfl)
theorem dX3_print_51 : decode cX3_print 51 = .ok (.iconst 0, 1) := dk_3 (dk_at dksX3_print_2 3 rfl rfl)
theorem dX3_print_52 : decode cX3_print 52 = .ok (.istore 4, 2) := dk_54 4 (dk_at dksX3_print_2 4 rfl rfl)
theorem dX3_print_54 : decode cX3_print 54 = .ok (.iconst 0, 1) := dk_3 (dk_at dksX3_print_2 6 rfl rfl)
theorem dX3_print_55 : decode cX3_print 55 = .ok (.istore 5, 2) := dk_54 5 (dk_at dksX3_print_2 7 rfl rfl)
theorem dX3_print_57 : decode cX3_print 57 = .ok (.iload 5, 2) := dk_21 5 (dk_at dksX3_print_2 9 rfl rfl)
theorem dX3_print_59 : decode cX3_print 59 = .ok (.aload_n 0, 1) := dk_42 (dk_at dksX3_print_2 11 rfl rfl)
theorem dX3_print_60 : decode cX3_print 60 = .ok (.iload_n 1, 1) := dk_27 (dk_at dksX3_print_2 12 rfl rfl)
theorem dX3_print_61 : decode cX3_print 61 = .ok (.invokevirtual 64, 3) := dk_182 0 64 (dk_at dksX3_print_2 13 rfl rfl)
theorem dX3_print_64 : decode cX3_print 64 = .ok (.if_icmp .ge 37, 3) := dk_162 0 37 (dk_at dksX3_print_2 16 rfl rfl)
theorem dX3_print_67 : decode cX3_print 67 = .ok (.iload 4, 2) := dk_21 4 (dk_at dksX3_print_2 19 rfl rfl)
theorem dX3_print_69 : decode cX3_print 69 = .ok (.ifCond .eq 23, 3) := dk_153 0 23 (dk_at dksX3_print_2 21 rfl rfl)
theorem dX3_print_72 : decode cX3_print 72 = .ok (.aload_n 0, 1) := dk_42 (dk_at dksX3_print_3 0 rfl rfl)
theorem dX3_print_73 : decode cX3_print 73 = .ok (.getfield 25, 3) := dk_180 0 25 (dk_at dksX3_print_3 1 rfl rfl)
theorem dX3_print_76 : decode cX3_print 76 = .ok (.aload_n 0, 1) := dk_42 (dk_at dksX3_print_3 4 rfl rfl)
theorem dX3_print_77 : decode cX3_print 77 = .ok (.iload_n 1, 1) := dk_27 (dk_at dksX3_print_3 5 rfl rfl)
theorem dX3_print_78 : decode cX3_print 78 = .ok (.iload_n 2, 1) := dk_28 (dk_at dksX3_print_3 6 rfl rfl)
theorem dX3_print_79 : decode cX3_print 79 = .ok (.iload 5, 2) := dk_21 5 (dk_at dksX3_print_3 7 rfl rfl)
theorem dX3_print_81 : decode cX3_print 81 = .ok (.invokevirtual 85, 3) := dk_182 0 85 (dk_at dksX3_print_3 9 rfl rfl)
theorem dX3_print_84 : decode cX3_print 84 = .ok (.baload, 1) := dk_51 (dk_at dksX3_print_3 12 rfl rfl)
theorem dX3_print_85 : decode cX3_print 85 = .ok (.ifCond .eq 7, 3) := dk_153 0 7 (dk_at dksX3_print_3 13 rfl rfl)
theorem dX3_print_88 : decode cX3_print 88 = .ok (.iconst 1, 1) := dk_4 (dk_at dksX3_print_3 16 rfl rfl)
theorem dX3_print_89 : decode cX3_print 89 = .ok (.goto 4, 3) := dk_167 0 4 (dk_at dksX3_print_3 17 rfl rfl)
theorem dX3_print_92 : decode cX3_print 92 = .ok (.iconst 0, 1) := dk_3 (dk_at dksX3_print_3 20 rfl rfl)
theorem dX3_print_93 : decode cX3_print 93 = .ok (.istore 4, 2) := dk_54 4 (dk_at dksX3_print_3 21 rfl rfl)
theorem dX3_print_95 : decode cX3_print 95 = .ok (.iinc 5 1, 3) := dk_132 5 1 (dk_at dksX3_print_4 0 rfl rfl)
theorem dX3_print_98 : decode cX3_print 98 = .ok (.goto (-41), 3) := dk_167 255 215 (dk_at dksX3_print_4 3 rfl rfl)
theorem dX3_print_101 : decode cX3_print 101 = .ok (.iload 4, 2) := dk_21 4 (dk_at dksX3_print_4 6 rfl rfl)
theorem dX3_print_103 : decode cX3_print 103 = .ok (.ifCond .ne 9, 3) := dk_154 0 9 (dk_at dksX3_print_4 8 rfl rfl)
theorem dX3_print_106 : decode cX3_print 106 = .ok (.aload_n 0, 1) := dk_42 (dk_at dksX3_print_4 11 rfl rfl)
theorem dX3_print_107 : decode cX3_print 107 = .ok (.iconst 5, 1) := dk_8 (dk_at dksX3_print_4 12 rfl rfl)
theorem dX3_print_108 : decode cX3_print 108 = .ok (.invokevirtual 101, 3) := dk_182 0 101 (dk_at dksX3_print_4 13 rfl rfl)
theorem dX3_print_111 : decode cX3_print 111 = .ok (.ireturn, 1) := dk_172 (dk_at dksX3_print_4 16 rfl rfl)
theorem dX3_print_112 : decode cX3_print 112 = .ok (.aload_n 0, 1) := dk_42 (dk_at dksX3_print_4 17 rfl rfl)
theorem dX3_print_113 : decode cX3_print 113 = .ok (.iload_n 1, 1) := dk_27 (dk_at dksX3_print_4 18 rfl rfl)
theorem dX3_print_114 : decode cX3_print 114 = .ok (.iload_n 2, 1) := dk_28 (dk_at dksX3_print_4 19 rfl rfl)
theorem dX3_print_115 : decode cX3_print 115 = .ok (.invokevirtual 131, 3) := dk_182 0 131 (dk_at dksX3_print_4 20 rfl rfl)
theorem dX3_print_118 : decode cX3_print 118 = .ok (.istore 5, 2) := dk_54 5 (dk_at dksX3_print_5 0 rfl rfl)
theorem dX3_print_120 : decode cX3_print 120 = .ok (.aload_n 0, 1) := dk_42 (dk_at dksX3_print_5 2 rfl rfl)
theorem dX3_print_121 : decode cX3_print 121 = .ok (.aload_n 0, 1) := dk_42 (dk_at dksX3_print_5 3 rfl rfl)
theorem dX3_print_122 : decode cX3_print 122 = .ok (.iload_n 1, 1) := dk_27 (dk_at dksX3_print_5 4 rfl rfl)
theorem dX3_print_123 : decode cX3_print 123 = .ok (.iload_n 2, 1) := dk_28 (dk_at dksX3_print_5 5 rfl rfl)
theorem dX3_print_124 : decode cX3_print 124 = .ok (.iconst 1, 1) := dk_4 (dk_at dksX3_print_5 6 rfl rfl)
theorem dX3_print_125 : decode cX3_print 125 = .ok (.invokevirtual 118, 3) := dk_182 0 118 (dk_at dksX3_print_5 7 rfl rfl)
theorem dX3_print_128 : decode cX3_print 128 = .ok (.putfield 122, 3) := dk_181 0 122 (dk_at dksX3_print_5 10 rfl rfl)
theorem dX3_print_131 : decode cX3_print 131 = .ok (.aload_n 0, 1) := dk_42 (dk_at dksX3_print_5 13 rfl rfl)
theorem dX3_print_132 : decode cX3_print 132 = .ok (.aload_n 0, 1) := dk_42 (dk_at dksX3_print_5 14 rfl rfl)
theorem dX3_print_133 : decode cX3_print 133 = .ok (.iload_n 1, 1) := dk_27 (dk_at dksX3_print_5 15 rfl rfl)
theorem dX3_print_134 : decode cX3_print 134 = .ok (.iload_n 2, 1) := dk_28 (dk_at dksX3_print_5 16 rfl rfl)
theorem dX3_print_135 : decode cX3_print 135 = .ok (.iconst 0, 1) := dk_3 (dk_at dksX3_print_5 17 rfl rfl)
theorem dX3_print_136 : decode cX3_print 136 = .ok (.invokevirtual 118, 3) := dk_182 0 118 (dk_at dksX3_print_5 18 rfl rfl)
theorem dX3_print_139 : decode cX3_print 139 = .ok (.putfield 125, 3) := dk_181 0 125 (dk_at dksX3_print_5 21 rfl rfl)
theorem dX3_print_142 : decode cX3_print 142 = .ok (.aload_n 0, 1) := dk_42 (dk_at dksX3_print_6 0 rfl rfl)
theorem dX3_print_143 : decode cX3_print 143 = .ok (.aload_n 0, 1) := dk_42 (dk_at dksX3_print_6 1 rfl rfl)
theorem dX3_print_144 : decode cX3_print 144 = .ok (.getfield 13, 3) := dk_180 0 13 (dk_at dksX3_print_6 2 rfl rfl)
theorem dX3_print_147 : decode cX3_print 147 = .ok (.iload_n 1, 1) := dk_27 (dk_at dksX3_print_6 5 rfl rfl)
theorem dX3_print_148 : decode cX3_print 148 = .ok (.iaload, 1) := dk_46 (dk_at dksX3_print_6 6 rfl rfl)
theorem dX3_print_149 : decode cX3_print 149 = .ok (.putfield 128, 3) := dk_181 0 128 (dk_at dksX3_print_6 7 rfl rfl)
theorem dX3_print_152 : decode cX3_print 152 = .ok (.aload_n 0, 1) := dk_42 (dk_at dksX3_print_6 10 rfl rfl)
theorem dX3_print_153 : decode cX3_print 153 = .ok (.aload_n 0, 1) := dk_42 (dk_at dksX3_print_6 11 rfl rfl)
theorem dX3_print_154 : decode cX3_print 154 = .ok (.getfield 122, 3) := dk_180 0 122 (dk_at dksX3_print_6 12 rfl rfl)
theorem dX3_print_157 : decode cX3_print 157 = .ok (.invokevirtual 134, 3) := dk_182 0 134 (dk_at dksX3_print_6 15 rfl rfl)
theorem dX3_print_160 : decode cX3_print 160 = .ok (.aload_n 0, 1) := dk_42 (dk_at dksX3_print_6 18 rfl rfl)
theorem dX3_print_161 : decode cX3_print 161 = .ok (.aload_n 0, 1) := dk_42 (dk_at dksX3_print_6 19 rfl rfl)
theorem dX3_print_162 : decode cX3_print 162 = .ok (.getfield 125, 3) := dk_180 0 125 (dk_at dksX3_print_6 20 rfl rfl)
theorem dX3_print_165 : decode cX3_print 165 = .ok (.invokevirtual 134, 3) := dk_182 0 134 (dk_at dksX3_print_7 0 rfl rfl)
theorem dX3_print_168 : decode cX3_print 168 = .ok (.aload_n 0, 1) := dk_42 (dk_at dksX3_print_7 3 rfl rfl)
theorem dX3_print_169 : decode cX3_print 169 = .ok (.getfield 22, 3) := dk_180 0 22 (dk_at dksX3_print_7 4 rfl rfl)
theorem dX3_print_172 : decode cX3_print 172 = .ok (.bipush 8, 2) := dk_16 8 (dk_at dksX3_print_7 7 rfl rfl)
theorem dX3_print_174 : decode cX3_print 174 = .ok (.iload_n 1, 1) := dk_27 (dk_at dksX3_print_7 9 rfl rfl)
theorem dX3_print_175 : decode cX3_print 175 = .ok (.imul, 1) := dk_104 (dk_at dksX3_print_7 10 rfl rfl)
theorem dX3_print_176 : decode cX3_print 176 = .ok (.iload_n 2, 1) := dk_28 (dk_at dksX3_print_7 11 rfl rfl)
theorem dX3_print_177 : decode cX3_print 177 = .ok (.iadd, 1) := dk_96 (dk_at dksX3_print_7 12 rfl rfl)
theorem dX3_print_178 : decode cX3_print 178 = .ok (.dup2, 1) := dk_92 (dk_at dksX3_print_7 13 rfl rfl)
theorem dX3_print_179 : decode cX3_print 179 = .ok (.iaload, 1) := dk_46 (dk_at dksX3_print_7 14 rfl rfl)
theorem dX3_print_180 : decode cX3_print 180 = .ok (.iload_n 3, 1) := dk_29 (dk_at dksX3_print_7 15 rfl rfl)
theorem dX3_print_181 : decode cX3_print 181 = .ok (.iadd, 1) := dk_96 (dk_at dksX3_print_7 16 rfl rfl)
theorem dX3_print_182 : decode cX3_print 182 = .ok (.iastore, 1) := dk_79 (dk_at dksX3_print_7 17 rfl rfl)
theorem dX3_print_183 : decode cX3_print 183 = .ok (.aload_n 0, 1) := dk_42 (dk_at dksX3_print_7 18 rfl rfl)
theorem dX3_print_184 : decode cX3_print 184 = .ok (.dup, 1) := dk_89 (dk_at dksX3_print_7 19 rfl rfl)
theorem dX3_print_185 : decode cX3_print 185 = .ok (.getfield 138, 3) := dk_180 0 138 (dk_at dksX3_print_7 20 rfl rfl)
theorem dX3_print_188 : decode cX3_print 188 = .ok (.iload_n 3, 1) := dk_29 (dk_at dksX3_print_7 23 rfl rfl)
theorem dX3_print_189 : decode cX3_print 189 = .ok (.i2l, 1) := dk_133 (dk_at dksX3_print_8 0 rfl rfl)
theorem dX3_print_190 : decode cX3_print 190 = .ok (.ladd, 1) := dk_97 (dk_at dksX3_print_8 1 rfl rfl)
theorem dX3_print_191 : decode cX3_print 191 = .ok (.putfield 138, 3) := dk_181 0 138 (dk_at dksX3_print_8 2 rfl rfl)
theorem dX3_print_194 : decode cX3_print 194 = .ok (.aload_n 0, 1) := dk_42 (dk_at dksX3_print_8 5 rfl rfl)
theorem dX3_print_195 : decode cX3_print 195 = .ok (.dup, 1) := dk_89 (dk_at dksX3_print_8 6 rfl rfl)
theorem dX3_print_196 : decode cX3_print 196 = .ok (.getfield 141, 3) := dk_180 0 141 (dk_at dksX3_print_8 7 rfl rfl)
theorem dX3_print_199 : decode cX3_print 199 = .ok (.iconst 1, 1) := dk_4 (dk_at dksX3_print_8 10 rfl rfl)
theorem dX3_print_200 : decode cX3_print 200 = .ok (.iadd, 1) := dk_96 (dk_at dksX3_print_8 11 rfl rfl)
theorem dX3_print_201 : decode cX3_print 201 = .ok (.putfield 141, 3) := dk_181 0 141 (dk_at dksX3_print_8 12 rfl rfl)
theorem dX3_print_204 : decode cX3_print 204 = .ok (.aload_n 0, 1) := dk_42 (dk_at dksX3_print_8 15 rfl rfl)
theorem dX3_print_205 : decode cX3_print 205 = .ok (.dup, 1) := dk_89 (dk_at dksX3_print_8 16 rfl rfl)
theorem dX3_print_206 : decode cX3_print 206 = .ok (.getfield 144, 3) := dk_180 0 144 (dk_at dksX3_print_8 17 rfl rfl)
theorem dX3_print_209 : decode cX3_print 209 = .ok (.iload 5, 2) := dk_21 5 (dk_at dksX3_print_8 20 rfl rfl)
theorem dX3_print_211 : decode cX3_print 211 = .ok (.iadd, 1) := dk_96 (dk_at dksX3_print_8 22 rfl rfl)
theorem dX3_print_212 : decode cX3_print 212 = .ok (.putfield 144, 3) := dk_181 0 144 (dk_at dksX3_print_9 0 rfl rfl)
theorem dX3_print_215 : decode cX3_print 215 = .ok (.iload 5, 2) := dk_21 5 (dk_at dksX3_print_9 3 rfl rfl)
theorem dX3_print_217 : decode cX3_print 217 = .ok (.ireturn, 1) := dk_172 (dk_at dksX3_print_9 5 rfl rfl)
abbrev cX3_ready : ByteArray := prog_15_method_29_code
def yX3_ready : MethodName := ⟨RX3, "ready", "(II)I"⟩
def dkwX3_ready_2 : List UInt8 := [180, 0, 128, 160, 0, 7, 3, 167, 0, 5, 16, 15, 96, 172]
abbrev dktX3_ready_2 : List UInt8 := dkwX3_ready_2 ++ []
def dkwX3_ready_1 : List UInt8 := [182, 0, 118, 42, 180, 0, 125, 160, 0, 7, 3, 167, 0, 5, 16, 20, 96, 42, 180, 0, 13, 27, 46, 42]
abbrev dktX3_ready_1 : List UInt8 := dkwX3_ready_1 ++ dktX3_ready_2
def dkwX3_ready_0 : List UInt8 := [42, 27, 28, 4, 182, 0, 118, 42, 180, 0, 122, 160, 0, 7, 3, 167, 0, 5, 16, 20, 42, 27, 28, 3]
abbrev dktX3_ready_0 : List UInt8 := dkwX3_ready_0 ++ dktX3_ready_1
theorem dksX3_ready_0 : cX3_ready.data.toList.drop 0 = dktX3_ready_0 := by decide +kernel
theorem dksX3_ready_1 : cX3_ready.data.toList.drop 24 = dktX3_ready_1 := dk_seg dksX3_ready_0 24 rfl rfl
theorem dksX3_ready_2 : cX3_ready.data.toList.drop 48 = dktX3_ready_2 := dk_seg dksX3_ready_1 24 rfl rfl
theorem dX3_ready_0 : decode cX3_ready 0 = .ok (.aload_n 0, 1) := dk_42 (dk_at dksX3_ready_0 0 rfl rfl)
theorem dX3_ready_1 : decode cX3_ready 1 = .ok (.iload_n 1, 1) := dk_27 (dk_at dksX3_ready_0 1 rfl rfl)
theorem dX3_ready_2 : decode cX3_ready 2 = .ok (.iload_n 2, 1) := dk_28 (dk_at dksX3_ready_0 2 rfl rfl)
theorem dX3_ready_3 : decode cX3_ready 3 = .ok (.iconst 1, 1) := dk_4 (dk_at dksX3_ready_0 3 rfl rfl)
theorem dX3_ready_4 : decode cX3_ready 4 = .ok (.invokevirtual 118, 3) := dk_182 0 118 (dk_at dksX3_ready_0 4 rfl rfl)
theorem dX3_ready_7 : decode cX3_ready 7 = .ok (.aload_n 0, 1) := dk_42 (dk_at dksX3_ready_0 7 rfl rfl)
theorem dX3_ready_8 : decode cX3_ready 8 = .ok (.getfield 122, 3) := dk_180 0 122 (dk_at dksX3_ready_0 8 rfl rfl)
theorem dX3_ready_11 : decode cX3_ready 11 = .ok (.if_icmp .ne 7, 3) := dk_160 0 7 (dk_at dksX3_ready_0 11 rfl rfl)
theorem dX3_ready_14 : decode cX3_ready 14 = .ok (.iconst 0, 1) := dk_3 (dk_at dksX3_ready_0 14 rfl rfl)
theorem dX3_ready_15 : decode cX3_ready 15 = .ok (.goto 5, 3) := dk_167 0 5 (dk_at dksX3_ready_0 15 rfl rfl)
theorem dX3_ready_18 : decode cX3_ready 18 = .ok (.bipush 20, 2) := dk_16 20 (dk_at dksX3_ready_0 18 rfl rfl)
theorem dX3_ready_20 : decode cX3_ready 20 = .ok (.aload_n 0, 1) := dk_42 (dk_at dksX3_ready_0 20 rfl rfl)
theorem dX3_ready_21 : decode cX3_ready 21 = .ok (.iload_n 1, 1) := dk_27 (dk_at dksX3_ready_0 21 rfl rfl)
theorem dX3_ready_22 : decode cX3_ready 22 = .ok (.iload_n 2, 1) := dk_28 (dk_at dksX3_ready_0 22 rfl rfl)
theorem dX3_ready_23 : decode cX3_ready 23 = .ok (.iconst 0, 1) := dk_3 (dk_at dksX3_ready_0 23 rfl rfl)
theorem dX3_ready_24 : decode cX3_ready 24 = .ok (.invokevirtual 118, 3) := dk_182 0 118 (dk_at dksX3_ready_1 0 rfl rfl)
theorem dX3_ready_27 : decode cX3_ready 27 = .ok (.aload_n 0, 1) := dk_42 (dk_at dksX3_ready_1 3 rfl rfl)
theorem dX3_ready_28 : decode cX3_ready 28 = .ok (.getfield 125, 3) := dk_180 0 125 (dk_at dksX3_ready_1 4 rfl rfl)
theorem dX3_ready_31 : decode cX3_ready 31 = .ok (.if_icmp .ne 7, 3) := dk_160 0 7 (dk_at dksX3_ready_1 7 rfl rfl)
theorem dX3_ready_34 : decode cX3_ready 34 = .ok (.iconst 0, 1) := dk_3 (dk_at dksX3_ready_1 10 rfl rfl)
theorem dX3_ready_35 : decode cX3_ready 35 = .ok (.goto 5, 3) := dk_167 0 5 (dk_at dksX3_ready_1 11 rfl rfl)
theorem dX3_ready_38 : decode cX3_ready 38 = .ok (.bipush 20, 2) := dk_16 20 (dk_at dksX3_ready_1 14 rfl rfl)
theorem dX3_ready_40 : decode cX3_ready 40 = .ok (.iadd, 1) := dk_96 (dk_at dksX3_ready_1 16 rfl rfl)
theorem dX3_ready_41 : decode cX3_ready 41 = .ok (.aload_n 0, 1) := dk_42 (dk_at dksX3_ready_1 17 rfl rfl)
theorem dX3_ready_42 : decode cX3_ready 42 = .ok (.getfield 13, 3) := dk_180 0 13 (dk_at dksX3_ready_1 18 rfl rfl)
theorem dX3_ready_45 : decode cX3_ready 45 = .ok (.iload_n 1, 1) := dk_27 (dk_at dksX3_ready_1 21 rfl rfl)
theorem dX3_ready_46 : decode cX3_ready 46 = .ok (.iaload, 1) := dk_46 (dk_at dksX3_ready_1 22 rfl rfl)
theorem dX3_ready_47 : decode cX3_ready 47 = .ok (.aload_n 0, 1) := dk_42 (dk_at dksX3_ready_1 23 rfl rfl)
theorem dX3_ready_48 : decode cX3_ready 48 = .ok (.getfield 128, 3) := dk_180 0 128 (dk_at dksX3_ready_2 0 rfl rfl)
theorem dX3_ready_51 : decode cX3_ready 51 = .ok (.if_icmp .ne 7, 3) := dk_160 0 7 (dk_at dksX3_ready_2 3 rfl rfl)
theorem dX3_ready_54 : decode cX3_ready 54 = .ok (.iconst 0, 1) := dk_3 (dk_at dksX3_ready_2 6 rfl rfl)
theorem dX3_ready_55 : decode cX3_ready 55 = .ok (.goto 5, 3) := dk_167 0 5 (dk_at dksX3_ready_2 7 rfl rfl)
theorem dX3_ready_58 : decode cX3_ready 58 = .ok (.bipush 15, 2) := dk_16 15 (dk_at dksX3_ready_2 10 rfl rfl)
theorem dX3_ready_60 : decode cX3_ready 60 = .ok (.iadd, 1) := dk_96 (dk_at dksX3_ready_2 12 rfl rfl)
theorem dX3_ready_61 : decode cX3_ready 61 = .ok (.ireturn, 1) := dk_172 (dk_at dksX3_ready_2 13 rfl rfl)
abbrev cX3_plateOf : ByteArray := prog_15_method_14_code
def yX3_plateOf : MethodName := ⟨RX3, "plateOf", "(IIZ)I"⟩
def dkwX3_plateOf_3 : List UInt8 := [6, 182, 0, 85, 182, 0, 88, 96, 172]
abbrev dktX3_plateOf_3 : List UInt8 := dkwX3_plateOf_3 ++ []
def dkwX3_plateOf_2 : List UInt8 := [167, 0, 4, 5, 182, 0, 85, 182, 0, 88, 104, 96, 42, 42, 27, 28, 29, 153, 0, 7, 4, 167, 0, 4]
abbrev dktX3_plateOf_2 : List UInt8 := dkwX3_plateOf_2 ++ dktX3_plateOf_3
def dkwX3_plateOf_1 : List UInt8 := [4, 182, 0, 85, 182, 0, 88, 96, 172, 17, 7, 208, 17, 4, 176, 42, 42, 27, 28, 29, 153, 0, 7, 3]
abbrev dktX3_plateOf_1 : List UInt8 := dkwX3_plateOf_1 ++ dktX3_plateOf_2
def dkwX3_plateOf_0 : List UInt8 := [42, 180, 0, 13, 27, 46, 16, 119, 160, 0, 25, 4, 42, 42, 27, 28, 29, 153, 0, 7, 3, 167, 0, 4]
abbrev dktX3_plateOf_0 : List UInt8 := dkwX3_plateOf_0 ++ dktX3_plateOf_1
theorem dksX3_plateOf_0 : cX3_plateOf.data.toList.drop 0 = dktX3_plateOf_0 := by decide +kernel
theorem dksX3_plateOf_1 : cX3_plateOf.data.toList.drop 24 = dktX3_plateOf_1 := dk_seg dksX3_plateOf_0 24 rfl rfl
theorem dksX3_plateOf_2 : cX3_plateOf.data.toList.drop 48 = dktX3_plateOf_2 := dk_seg dksX3_plateOf_1 24 rfl rfl
theorem dksX3_plateOf_3 : cX3_plateOf.data.toList.drop 72 = dktX3_plateOf_3 := dk_seg dksX3_plateOf_2 24 rfl rfl
theorem dX3_plateOf_0 : decode cX3_plateOf 0 = .ok (.aload_n 0, 1) := dk_42 (dk_at dksX3_plateOf_0 0 rfl rfl)
theorem dX3_plateOf_1 : decode cX3_plateOf 1 = .ok (.getfield 13, 3) := dk_180 0 13 (dk_at dksX3_plateOf_0 1 rfl rfl)
theorem dX3_plateOf_4 : decode cX3_plateOf 4 = .ok (.iload_n 1, 1) := dk_27 (dk_at dksX3_plateOf_0 4 rfl rfl)
theorem dX3_plateOf_5 : decode cX3_plateOf 5 = .ok (.iaload, 1) := dk_46 (dk_at dksX3_plateOf_0 5 rfl rfl)
theorem dX3_plateOf_6 : decode cX3_plateOf 6 = .ok (.bipush 119, 2) := dk_16 119 (dk_at dksX3_plateOf_0 6 rfl rfl)
theorem dX3_plateOf_8 : decode cX3_plateOf 8 = .ok (.if_icmp .ne 25, 3) := dk_160 0 25 (dk_at dksX3_plateOf_0 8 rfl rfl)
theorem dX3_plateOf_11 : decode cX3_plateOf 11 = .ok (.iconst 1, 1) := dk_4 (dk_at dksX3_plateOf_0 11 rfl rfl)
theorem dX3_plateOf_12 : decode cX3_plateOf 12 = .ok (.aload_n 0, 1) := dk_42 (dk_at dksX3_plateOf_0 12 rfl rfl)
theorem dX3_plateOf_13 : decode cX3_plateOf 13 = .ok (.aload_n 0, 1) := dk_42 (dk_at dksX3_plateOf_0 13 rfl rfl)
theorem dX3_plateOf_14 : decode cX3_plateOf 14 = .ok (.iload_n 1, 1) := dk_27 (dk_at dksX3_plateOf_0 14 rfl rfl)
theorem dX3_plateOf_15 : decode cX3_plateOf 15 = .ok (.iload_n 2, 1) := dk_28 (dk_at dksX3_plateOf_0 15 rfl rfl)
theorem dX3_plateOf_16 : decode cX3_plateOf 16 = .ok (.iload_n 3, 1) := dk_29 (dk_at dksX3_plateOf_0 16 rfl rfl)
theorem dX3_plateOf_17 : decode cX3_plateOf 17 = .ok (.ifCond .eq 7, 3) := dk_153 0 7 (dk_at dksX3_plateOf_0 17 rfl rfl)
theorem dX3_plateOf_20 : decode cX3_plateOf 20 = .ok (.iconst 0, 1) := dk_3 (dk_at dksX3_plateOf_0 20 rfl rfl)
theorem dX3_plateOf_21 : decode cX3_plateOf 21 = .ok (.goto 4, 3) := dk_167 0 4 (dk_at dksX3_plateOf_0 21 rfl rfl)
theorem dX3_plateOf_24 : decode cX3_plateOf 24 = .ok (.iconst 1, 1) := dk_4 (dk_at dksX3_plateOf_1 0 rfl rfl)
theorem dX3_plateOf_25 : decode cX3_plateOf 25 = .ok (.invokevirtual 85, 3) := dk_182 0 85 (dk_at dksX3_plateOf_1 1 rfl rfl)
theorem dX3_plateOf_28 : decode cX3_plateOf 28 = .ok (.invokevirtual 88, 3) := dk_182 0 88 (dk_at dksX3_plateOf_1 4 rfl rfl)
theorem dX3_plateOf_31 : decode cX3_plateOf 31 = .ok (.iadd, 1) := dk_96 (dk_at dksX3_plateOf_1 7 rfl rfl)
theorem dX3_plateOf_32 : decode cX3_plateOf 32 = .ok (.ireturn, 1) := dk_172 (dk_at dksX3_plateOf_1 8 rfl rfl)
theorem dX3_plateOf_33 : decode cX3_plateOf 33 = .ok (.sipush 2000, 3) := dk_17 7 208 (dk_at dksX3_plateOf_1 9 rfl rfl)
theorem dX3_plateOf_36 : decode cX3_plateOf 36 = .ok (.sipush 1200, 3) := dk_17 4 176 (dk_at dksX3_plateOf_1 12 rfl rfl)
theorem dX3_plateOf_39 : decode cX3_plateOf 39 = .ok (.aload_n 0, 1) := dk_42 (dk_at dksX3_plateOf_1 15 rfl rfl)
theorem dX3_plateOf_40 : decode cX3_plateOf 40 = .ok (.aload_n 0, 1) := dk_42 (dk_at dksX3_plateOf_1 16 rfl rfl)
theorem dX3_plateOf_41 : decode cX3_plateOf 41 = .ok (.iload_n 1, 1) := dk_27 (dk_at dksX3_plateOf_1 17 rfl rfl)
theorem dX3_plateOf_42 : decode cX3_plateOf 42 = .ok (.iload_n 2, 1) := dk_28 (dk_at dksX3_plateOf_1 18 rfl rfl)
theorem dX3_plateOf_43 : decode cX3_plateOf 43 = .ok (.iload_n 3, 1) := dk_29 (dk_at dksX3_plateOf_1 19 rfl rfl)
theorem dX3_plateOf_44 : decode cX3_plateOf 44 = .ok (.ifCond .eq 7, 3) := dk_153 0 7 (dk_at dksX3_plateOf_1 20 rfl rfl)
theorem dX3_plateOf_47 : decode cX3_plateOf 47 = .ok (.iconst 0, 1) := dk_3 (dk_at dksX3_plateOf_1 23 rfl rfl)
theorem dX3_plateOf_48 : decode cX3_plateOf 48 = .ok (.goto 4, 3) := dk_167 0 4 (dk_at dksX3_plateOf_2 0 rfl rfl)
theorem dX3_plateOf_51 : decode cX3_plateOf 51 = .ok (.iconst 2, 1) := dk_5 (dk_at dksX3_plateOf_2 3 rfl rfl)
theorem dX3_plateOf_52 : decode cX3_plateOf 52 = .ok (.invokevirtual 85, 3) := dk_182 0 85 (dk_at dksX3_plateOf_2 4 rfl rfl)
theorem dX3_plateOf_55 : decode cX3_plateOf 55 = .ok (.invokevirtual 88, 3) := dk_182 0 88 (dk_at dksX3_plateOf_2 7 rfl rfl)
theorem dX3_plateOf_58 : decode cX3_plateOf 58 = .ok (.imul, 1) := dk_104 (dk_at dksX3_plateOf_2 10 rfl rfl)
theorem dX3_plateOf_59 : decode cX3_plateOf 59 = .ok (.iadd, 1) := dk_96 (dk_at dksX3_plateOf_2 11 rfl rfl)
theorem dX3_plateOf_60 : decode cX3_plateOf 60 = .ok (.aload_n 0, 1) := dk_42 (dk_at dksX3_plateOf_2 12 rfl rfl)
theorem dX3_plateOf_61 : decode cX3_plateOf 61 = .ok (.aload_n 0, 1) := dk_42 (dk_at dksX3_plateOf_2 13 rfl rfl)
theorem dX3_plateOf_62 : decode cX3_plateOf 62 = .ok (.iload_n 1, 1) := dk_27 (dk_at dksX3_plateOf_2 14 rfl rfl)
theorem dX3_plateOf_63 : decode cX3_plateOf 63 = .ok (.iload_n 2, 1) := dk_28 (dk_at dksX3_plateOf_2 15 rfl rfl)
theorem dX3_plateOf_64 : decode cX3_plateOf 64 = .ok (.iload_n 3, 1) := dk_29 (dk_at dksX3_plateOf_2 16 rfl rfl)
theorem dX3_plateOf_65 : decode cX3_plateOf 65 = .ok (.ifCond .eq 7, 3) := dk_153 0 7 (dk_at dksX3_plateOf_2 17 rfl rfl)
theorem dX3_plateOf_68 : decode cX3_plateOf 68 = .ok (.iconst 1, 1) := dk_4 (dk_at dksX3_plateOf_2 20 rfl rfl)
theorem dX3_plateOf_69 : decode cX3_plateOf 69 = .ok (.goto 4, 3) := dk_167 0 4 (dk_at dksX3_plateOf_2 21 rfl rfl)
theorem dX3_plateOf_72 : decode cX3_plateOf 72 = .ok (.iconst 3, 1) := dk_6 (dk_at dksX3_plateOf_3 0 rfl rfl)
theorem dX3_plateOf_73 : decode cX3_plateOf 73 = .ok (.invokevirtual 85, 3) := dk_182 0 85 (dk_at dksX3_plateOf_3 1 rfl rfl)
theorem dX3_plateOf_76 : decode cX3_plateOf 76 = .ok (.invokevirtual 88, 3) := dk_182 0 88 (dk_at dksX3_plateOf_3 4 rfl rfl)
theorem dX3_plateOf_79 : decode cX3_plateOf 79 = .ok (.iadd, 1) := dk_96 (dk_at dksX3_plateOf_3 7 rfl rfl)
theorem dX3_plateOf_80 : decode cX3_plateOf 80 = .ok (.ireturn, 1) := dk_172 (dk_at dksX3_plateOf_3 8 rfl rfl)
abbrev cX3_code : ByteArray := prog_15_method_13_code
def yX3_code : MethodName := ⟨RX3, "code", "(I)I"⟩
def dkwX3_code_0 : List UInt8 := [16, 100, 27, 104, 42, 180, 0, 7, 27, 46, 96, 172]
abbrev dktX3_code_0 : List UInt8 := dkwX3_code_0 ++ []
theorem dksX3_code_0 : cX3_code.data.toList.drop 0 = dktX3_code_0 := by decide +kernel
theorem dX3_code_0 : decode cX3_code 0 = .ok (.bipush 100, 2) := dk_16 100 (dk_at dksX3_code_0 0 rfl rfl)
theorem dX3_code_2 : decode cX3_code 2 = .ok (.iload_n 1, 1) := dk_27 (dk_at dksX3_code_0 2 rfl rfl)
theorem dX3_code_3 : decode cX3_code 3 = .ok (.imul, 1) := dk_104 (dk_at dksX3_code_0 3 rfl rfl)
theorem dX3_code_4 : decode cX3_code 4 = .ok (.aload_n 0, 1) := dk_42 (dk_at dksX3_code_0 4 rfl rfl)
theorem dX3_code_5 : decode cX3_code 5 = .ok (.getfield 7, 3) := dk_180 0 7 (dk_at dksX3_code_0 5 rfl rfl)
theorem dX3_code_8 : decode cX3_code 8 = .ok (.iload_n 1, 1) := dk_27 (dk_at dksX3_code_0 8 rfl rfl)
theorem dX3_code_9 : decode cX3_code 9 = .ok (.iaload, 1) := dk_46 (dk_at dksX3_code_0 9 rfl rfl)
theorem dX3_code_10 : decode cX3_code 10 = .ok (.iadd, 1) := dk_96 (dk_at dksX3_code_0 10 rfl rfl)
theorem dX3_code_11 : decode cX3_code 11 = .ok (.ireturn, 1) := dk_172 (dk_at dksX3_code_0 11 rfl rfl)
abbrev cX3_makes : ByteArray := prog_15_method_16_code
def yX3_makes : MethodName := ⟨RX3, "makes", "(I)V"⟩
def dkwX3_makes_1 : List UInt8 := [4, 96, 181, 0, 91, 177]
abbrev dktX3_makes_1 : List UInt8 := dkwX3_makes_1 ++ []
def dkwX3_makes_0 : List UInt8 := [42, 27, 182, 0, 94, 153, 0, 4, 177, 42, 180, 0, 29, 42, 180, 0, 91, 27, 79, 42, 89, 180, 0, 91]
abbrev dktX3_makes_0 : List UInt8 := dkwX3_makes_0 ++ dktX3_makes_1
theorem dksX3_makes_0 : cX3_makes.data.toList.drop 0 = dktX3_makes_0 := by decide +kernel
theorem dksX3_makes_1 : cX3_makes.data.toList.drop 24 = dktX3_makes_1 := dk_seg dksX3_makes_0 24 rfl rfl
theorem dX3_makes_0 : decode cX3_makes 0 = .ok (.aload_n 0, 1) := dk_42 (dk_at dksX3_makes_0 0 rfl rfl)
theorem dX3_makes_1 : decode cX3_makes 1 = .ok (.iload_n 1, 1) := dk_27 (dk_at dksX3_makes_0 1 rfl rfl)
theorem dX3_makes_2 : decode cX3_makes 2 = .ok (.invokevirtual 94, 3) := dk_182 0 94 (dk_at dksX3_makes_0 2 rfl rfl)
theorem dX3_makes_5 : decode cX3_makes 5 = .ok (.ifCond .eq 4, 3) := dk_153 0 4 (dk_at dksX3_makes_0 5 rfl rfl)
theorem dX3_makes_8 : decode cX3_makes 8 = .ok (.return_, 1) := dk_177 (dk_at dksX3_makes_0 8 rfl rfl)
theorem dX3_makes_9 : decode cX3_makes 9 = .ok (.aload_n 0, 1) := dk_42 (dk_at dksX3_makes_0 9 rfl rfl)
theorem dX3_makes_10 : decode cX3_makes 10 = .ok (.getfield 29, 3) := dk_180 0 29 (dk_at dksX3_makes_0 10 rfl rfl)
theorem dX3_makes_13 : decode cX3_makes 13 = .ok (.aload_n 0, 1) := dk_42 (dk_at dksX3_makes_0 13 rfl rfl)
theorem dX3_makes_14 : decode cX3_makes 14 = .ok (.getfield 91, 3) := dk_180 0 91 (dk_at dksX3_makes_0 14 rfl rfl)
theorem dX3_makes_17 : decode cX3_makes 17 = .ok (.iload_n 1, 1) := dk_27 (dk_at dksX3_makes_0 17 rfl rfl)
theorem dX3_makes_18 : decode cX3_makes 18 = .ok (.iastore, 1) := dk_79 (dk_at dksX3_makes_0 18 rfl rfl)
theorem dX3_makes_19 : decode cX3_makes 19 = .ok (.aload_n 0, 1) := dk_42 (dk_at dksX3_makes_0 19 rfl rfl)
theorem dX3_makes_20 : decode cX3_makes 20 = .ok (.dup, 1) := dk_89 (dk_at dksX3_makes_0 20 rfl rfl)
theorem dX3_makes_21 : decode cX3_makes 21 = .ok (.getfield 91, 3) := dk_180 0 91 (dk_at dksX3_makes_0 21 rfl rfl)
theorem dX3_makes_24 : decode cX3_makes 24 = .ok (.iconst 1, 1) := dk_4 (dk_at dksX3_makes_1 0 rfl rfl)
theorem dX3_makes_25 : decode cX3_makes 25 = .ok (.iadd, 1) := dk_96 (dk_at dksX3_makes_1 1 rfl rfl)
theorem dX3_makes_26 : decode cX3_makes 26 = .ok (.putfield 91, 3) := dk_181 0 91 (dk_at dksX3_makes_1 2 rfl rfl)
theorem dX3_makes_29 : decode cX3_makes 29 = .ok (.return_, 1) := dk_177 (dk_at dksX3_makes_1 5 rfl rfl)
abbrev cX3_isMade : ByteArray := prog_15_method_15_code
def yX3_isMade : MethodName := ⟨RX3, "isMade", "(I)Z"⟩
def dkwX3_isMade_1 : List UInt8 := [132, 2, 1, 167, 255, 233, 3, 172]
abbrev dktX3_isMade_1 : List UInt8 := dkwX3_isMade_1 ++ []
def dkwX3_isMade_0 : List UInt8 := [3, 61, 28, 42, 180, 0, 91, 162, 0, 21, 42, 180, 0, 29, 28, 46, 27, 160, 0, 5, 4, 172]
abbrev dktX3_isMade_0 : List UInt8 := dkwX3_isMade_0 ++ dktX3_isMade_1
theorem dksX3_isMade_0 : cX3_isMade.data.toList.drop 0 = dktX3_isMade_0 := by decide +kernel
theorem dksX3_isMade_1 : cX3_isMade.data.toList.drop 22 = dktX3_isMade_1 := dk_seg dksX3_isMade_0 22 rfl rfl
theorem dX3_isMade_0 : decode cX3_isMade 0 = .ok (.iconst 0, 1) := dk_3 (dk_at dksX3_isMade_0 0 rfl rfl)
theorem dX3_isMade_1 : decode cX3_isMade 1 = .ok (.istore_n 2, 1) := dk_61 (dk_at dksX3_isMade_0 1 rfl rfl)
theorem dX3_isMade_2 : decode cX3_isMade 2 = .ok (.iload_n 2, 1) := dk_28 (dk_at dksX3_isMade_0 2 rfl rfl)
theorem dX3_isMade_3 : decode cX3_isMade 3 = .ok (.aload_n 0, 1) := dk_42 (dk_at dksX3_isMade_0 3 rfl rfl)
theorem dX3_isMade_4 : decode cX3_isMade 4 = .ok (.getfield 91, 3) := dk_180 0 91 (dk_at dksX3_isMade_0 4 rfl rfl)
theorem dX3_isMade_7 : decode cX3_isMade 7 = .ok (.if_icmp .ge 21, 3) := dk_162 0 21 (dk_at dksX3_isMade_0 7 rfl rfl)
theorem dX3_isMade_10 : decode cX3_isMade 10 = .ok (.aload_n 0, 1) := dk_42 (dk_at dksX3_isMade_0 10 rfl rfl)
theorem dX3_isMade_11 : decode cX3_isMade 11 = .ok (.getfield 29, 3) := dk_180 0 29 (dk_at dksX3_isMade_0 11 rfl rfl)
theorem dX3_isMade_14 : decode cX3_isMade 14 = .ok (.iload_n 2, 1) := dk_28 (dk_at dksX3_isMade_0 14 rfl rfl)
theorem dX3_isMade_15 : decode cX3_isMade 15 = .ok (.iaload, 1) := dk_46 (dk_at dksX3_isMade_0 15 rfl rfl)
theorem dX3_isMade_16 : decode cX3_isMade 16 = .ok (.iload_n 1, 1) := dk_27 (dk_at dksX3_isMade_0 16 rfl rfl)
theorem dX3_isMade_17 : decode cX3_isMade 17 = .ok (.if_icmp .ne 5, 3) := dk_160 0 5 (dk_at dksX3_isMade_0 17 rfl rfl)
theorem dX3_isMade_20 : decode cX3_isMade 20 = .ok (.iconst 1, 1) := dk_4 (dk_at dksX3_isMade_0 20 rfl rfl)
theorem dX3_isMade_21 : decode cX3_isMade 21 = .ok (.ireturn, 1) := dk_172 (dk_at dksX3_isMade_0 21 rfl rfl)
theorem dX3_isMade_22 : decode cX3_isMade 22 = .ok (.iinc 2 1, 3) := dk_132 2 1 (dk_at dksX3_isMade_1 0 rfl rfl)
theorem dX3_isMade_25 : decode cX3_isMade 25 = .ok (.goto (-23), 3) := dk_167 255 233 (dk_at dksX3_isMade_1 3 rfl rfl)
theorem dX3_isMade_28 : decode cX3_isMade 28 = .ok (.iconst 0, 1) := dk_3 (dk_at dksX3_isMade_1 6 rfl rfl)
theorem dX3_isMade_29 : decode cX3_isMade 29 = .ok (.ireturn, 1) := dk_172 (dk_at dksX3_isMade_1 7 rfl rfl)
abbrev cX3_makeready : ByteArray := prog_15_method_31_code
def yX3_makeready : MethodName := ⟨RX3, "makeready", "(II)I"⟩
def dkwX3_makeready_0 : List UInt8 := [42, 27, 28, 182, 0, 114, 153, 0, 12, 42, 27, 28, 182, 0, 131, 167, 0, 4, 3, 172]
abbrev dktX3_makeready_0 : List UInt8 := dkwX3_makeready_0 ++ []
theorem dksX3_makeready_0 : cX3_makeready.data.toList.drop 0 = dktX3_makeready_0 := by decide +kernel
theorem dX3_makeready_0 : decode cX3_makeready 0 = .ok (.aload_n 0, 1) := dk_42 (dk_at dksX3_makeready_0 0 rfl rfl)
theorem dX3_makeready_1 : decode cX3_makeready 1 = .ok (.iload_n 1, 1) := dk_27 (dk_at dksX3_makeready_0 1 rfl rfl)
theorem dX3_makeready_2 : decode cX3_makeready 2 = .ok (.iload_n 2, 1) := dk_28 (dk_at dksX3_makeready_0 2 rfl rfl)
theorem dX3_makeready_3 : decode cX3_makeready 3 = .ok (.invokevirtual 114, 3) := dk_182 0 114 (dk_at dksX3_makeready_0 3 rfl rfl)
theorem dX3_makeready_6 : decode cX3_makeready 6 = .ok (.ifCond .eq 12, 3) := dk_153 0 12 (dk_at dksX3_makeready_0 6 rfl rfl)
theorem dX3_makeready_9 : decode cX3_makeready 9 = .ok (.aload_n 0, 1) := dk_42 (dk_at dksX3_makeready_0 9 rfl rfl)
theorem dX3_makeready_10 : decode cX3_makeready 10 = .ok (.iload_n 1, 1) := dk_27 (dk_at dksX3_makeready_0 10 rfl rfl)
theorem dX3_makeready_11 : decode cX3_makeready 11 = .ok (.iload_n 2, 1) := dk_28 (dk_at dksX3_makeready_0 11 rfl rfl)
theorem dX3_makeready_12 : decode cX3_makeready 12 = .ok (.invokevirtual 131, 3) := dk_182 0 131 (dk_at dksX3_makeready_0 12 rfl rfl)
theorem dX3_makeready_15 : decode cX3_makeready 15 = .ok (.goto 4, 3) := dk_167 0 4 (dk_at dksX3_makeready_0 15 rfl rfl)
theorem dX3_makeready_18 : decode cX3_makeready 18 = .ok (.iconst 0, 1) := dk_3 (dk_at dksX3_makeready_0 18 rfl rfl)
theorem dX3_makeready_19 : decode cX3_makeready 19 = .ok (.ireturn, 1) := dk_172 (dk_at dksX3_makeready_0 19 rfl rfl)
abbrev cX3_leastMakeready : ByteArray := prog_15_method_34_code
def yX3_leastMakeready : MethodName := ⟨RX3, "leastMakeready", "(I)I"⟩
def dkwX3_leastMakeready_0 : List UInt8 := [42, 27, 182, 0, 75, 153, 0, 11, 42, 27, 182, 0, 153, 167, 0, 4, 3, 172]
abbrev dktX3_leastMakeready_0 : List UInt8 := dkwX3_leastMakeready_0 ++ []
theorem dksX3_leastMakeready_0 : cX3_leastMakeready.data.toList.drop 0 = dktX3_leastMakeready_0 := by decide +kernel
theorem dX3_leastMakeready_0 : decode cX3_leastMakeready 0 = .ok (.aload_n 0, 1) := dk_42 (dk_at dksX3_leastMakeready_0 0 rfl rfl)
theorem dX3_leastMakeready_1 : decode cX3_leastMakeready 1 = .ok (.iload_n 1, 1) := dk_27 (dk_at dksX3_leastMakeready_0 1 rfl rfl)
theorem dX3_leastMakeready_2 : decode cX3_leastMakeready 2 = .ok (.invokevirtual 75, 3) := dk_182 0 75 (dk_at dksX3_leastMakeready_0 2 rfl rfl)
theorem dX3_leastMakeready_5 : decode cX3_leastMakeready 5 = .ok (.ifCond .eq 11, 3) := dk_153 0 11 (dk_at dksX3_leastMakeready_0 5 rfl rfl)
theorem dX3_leastMakeready_8 : decode cX3_leastMakeready 8 = .ok (.aload_n 0, 1) := dk_42 (dk_at dksX3_leastMakeready_0 8 rfl rfl)
theorem dX3_leastMakeready_9 : decode cX3_leastMakeready 9 = .ok (.iload_n 1, 1) := dk_27 (dk_at dksX3_leastMakeready_0 9 rfl rfl)
theorem dX3_leastMakeready_10 : decode cX3_leastMakeready 10 = .ok (.invokevirtual 153, 3) := dk_182 0 153 (dk_at dksX3_leastMakeready_0 10 rfl rfl)
theorem dX3_leastMakeready_13 : decode cX3_leastMakeready 13 = .ok (.goto 4, 3) := dk_167 0 4 (dk_at dksX3_leastMakeready_0 13 rfl rfl)
theorem dX3_leastMakeready_16 : decode cX3_leastMakeready 16 = .ok (.iconst 0, 1) := dk_3 (dk_at dksX3_leastMakeready_0 16 rfl rfl)
theorem dX3_leastMakeready_17 : decode cX3_leastMakeready 17 = .ok (.ireturn, 1) := dk_172 (dk_at dksX3_leastMakeready_0 17 rfl rfl)
abbrev cX3_least : ByteArray := prog_15_method_33_code
def yX3_least : MethodName := ⟨RX3, "least", "(I)I"⟩
def dkwX3_least_10 : List UInt8 := [162, 0, 8, 21, 5, 167, 0, 4, 29, 62, 132, 4, 1, 167, 255, 216, 29, 172]
abbrev dktX3_least_10 : List UInt8 := dkwX3_least_10 ++ []
def dkwX3_least_9 : List UInt8 := [162, 0, 40, 42, 180, 0, 38, 16, 8, 4, 28, 120, 4, 100, 104, 21, 4, 96, 46, 54, 5, 21, 5, 29]
abbrev dktX3_least_9 : List UInt8 := dkwX3_least_9 ++ dktX3_least_10
def dkwX3_least_8 : List UInt8 := [21, 6, 79, 132, 4, 1, 167, 255, 121, 132, 3, 1, 167, 255, 105, 18, 149, 62, 3, 54, 4, 21, 4, 28]
abbrev dktX3_least_8 : List UInt8 := dkwX3_least_8 ++ dktX3_least_9
def dkwX3_least_7 : List UInt8 := [182, 0, 150, 96, 54, 6, 132, 7, 1, 167, 255, 179, 42, 180, 0, 38, 16, 8, 29, 104, 21, 4, 96]
abbrev dktX3_least_7 : List UInt8 := dkwX3_least_7 ++ dktX3_least_8
def dkwX3_least_6 : List UInt8 := [96, 21, 6, 162, 0, 27, 42, 180, 0, 38, 16, 8, 21, 5, 104, 21, 7, 96, 46, 42, 21, 7, 21, 4]
abbrev dktX3_least_6 : List UInt8 := dkwX3_least_6 ++ dktX3_least_7
def dkwX3_least_5 : List UInt8 := [160, 0, 54, 42, 180, 0, 38, 16, 8, 21, 5, 104, 21, 7, 96, 46, 42, 21, 7, 21, 4, 182, 0, 150]
abbrev dktX3_least_5 : List UInt8 := dkwX3_least_5 ++ dktX3_least_6
def dkwX3_least_4 : List UInt8 := [54, 7, 21, 7, 28, 162, 0, 77, 21, 5, 29, 159, 0, 71, 21, 5, 21, 7, 122, 4, 126, 4]
abbrev dktX3_least_4 : List UInt8 := dkwX3_least_4 ++ dktX3_least_5
def dkwX3_least_3 : List UInt8 := [126, 54, 5, 21, 5, 154, 0, 13, 42, 27, 21, 4, 182, 0, 131, 167, 0, 5, 18, 149, 54, 6, 3]
abbrev dktX3_least_3 : List UInt8 := dkwX3_least_3 ++ dktX3_least_4
def dkwX3_least_2 : List UInt8 := [62, 29, 4, 28, 120, 162, 0, 150, 3, 54, 4, 21, 4, 28, 162, 0, 135, 29, 4, 21, 4, 120, 2, 130]
abbrev dktX3_least_2 : List UInt8 := dkwX3_least_2 ++ dktX3_least_3
def dkwX3_least_1 : List UInt8 := [182, 0, 118, 79, 42, 180, 0, 35, 29, 42, 27, 29, 3, 182, 0, 118, 79, 132, 3, 1, 167, 255, 222, 4]
abbrev dktX3_least_1 : List UInt8 := dkwX3_least_1 ++ dktX3_least_2
def dkwX3_least_0 : List UInt8 := [42, 27, 182, 0, 78, 61, 3, 62, 29, 28, 162, 0, 35, 42, 180, 0, 32, 29, 42, 27, 29, 4]
abbrev dktX3_least_0 : List UInt8 := dkwX3_least_0 ++ dktX3_least_1
theorem dksX3_least_0 : cX3_least.data.toList.drop 0 = dktX3_least_0 := by decide +kernel
theorem dksX3_least_1 : cX3_least.data.toList.drop 22 = dktX3_least_1 := dk_seg dksX3_least_0 22 rfl rfl
theorem dksX3_least_2 : cX3_least.data.toList.drop 46 = dktX3_least_2 := dk_seg dksX3_least_1 24 rfl rfl
theorem dksX3_least_3 : cX3_least.data.toList.drop 70 = dktX3_least_3 := dk_seg dksX3_least_2 24 rfl rfl
theorem dksX3_least_4 : cX3_least.data.toList.drop 93 = dktX3_least_4 := dk_seg dksX3_least_3 23 rfl rfl
theorem dksX3_least_5 : cX3_least.data.toList.drop 115 = dktX3_least_5 := dk_seg dksX3_least_4 22 rfl rfl
theorem dksX3_least_6 : cX3_least.data.toList.drop 139 = dktX3_least_6 := dk_seg dksX3_least_5 24 rfl rfl
theorem dksX3_least_7 : cX3_least.data.toList.drop 163 = dktX3_least_7 := dk_seg dksX3_least_6 24 rfl rfl
theorem dksX3_least_8 : cX3_least.data.toList.drop 186 = dktX3_least_8 := dk_seg dksX3_least_7 23 rfl rfl
theorem dksX3_least_9 : cX3_least.data.toList.drop 210 = dktX3_least_9 := dk_seg dksX3_least_8 24 rfl rfl
theorem dksX3_least_10 : cX3_least.data.toList.drop 234 = dktX3_least_10 := dk_seg dksX3_least_9 24 rfl rfl
theorem dX3_least_0 : decode cX3_least 0 = .ok (.aload_n 0, 1) := dk_42 (dk_at dksX3_least_0 0 rfl rfl)
theorem dX3_least_1 : decode cX3_least 1 = .ok (.iload_n 1, 1) := dk_27 (dk_at dksX3_least_0 1 rfl rfl)
theorem dX3_least_2 : decode cX3_least 2 = .ok (.invokevirtual 78, 3) := dk_182 0 78 (dk_at dksX3_least_0 2 rfl rfl)
theorem dX3_least_5 : decode cX3_least 5 = .ok (.istore_n 2, 1) := dk_61 (dk_at dksX3_least_0 5 rfl rfl)
theorem dX3_least_6 : decode cX3_least 6 = .ok (.iconst 0, 1) := dk_3 (dk_at dksX3_least_0 6 rfl rfl)
theorem dX3_least_7 : decode cX3_least 7 = .ok (.istore_n 3, 1) := dk_62 (dk_at dksX3_least_0 7 rfl rfl)
theorem dX3_least_8 : decode cX3_least 8 = .ok (.iload_n 3, 1) := dk_29 (dk_at dksX3_least_0 8 rfl rfl)
theorem dX3_least_9 : decode cX3_least 9 = .ok (.iload_n 2, 1) := dk_28 (dk_at dksX3_least_0 9 rfl rfl)
theorem dX3_least_10 : decode cX3_least 10 = .ok (.if_icmp .ge 35, 3) := dk_162 0 35 (dk_at dksX3_least_0 10 rfl rfl)
theorem dX3_least_13 : decode cX3_least 13 = .ok (.aload_n 0, 1) := dk_42 (dk_at dksX3_least_0 13 rfl rfl)
theorem dX3_least_14 : decode cX3_least 14 = .ok (.getfield 32, 3) := dk_180 0 32 (dk_at dksX3_least_0 14 rfl rfl)
theorem dX3_least_17 : decode cX3_least 17 = .ok (.iload_n 3, 1) := dk_29 (dk_at dksX3_least_0 17 rfl rfl)
theorem dX3_least_18 : decode cX3_least 18 = .ok (.aload_n 0, 1) := dk_42 (dk_at dksX3_least_0 18 rfl rfl)
theorem dX3_least_19 : decode cX3_least 19 = .ok (.iload_n 1, 1) := dk_27 (dk_at dksX3_least_0 19 rfl rfl)
theorem dX3_least_20 : decode cX3_least 20 = .ok (.iload_n 3, 1) := dk_29 (dk_at dksX3_least_0 20 rfl rfl)
theorem dX3_least_21 : decode cX3_least 21 = .ok (.iconst 1, 1) := dk_4 (dk_at dksX3_least_0 21 rfl rfl)
theorem dX3_least_22 : decode cX3_least 22 = .ok (.invokevirtual 118, 3) := dk_182 0 118 (dk_at dksX3_least_1 0 rfl rfl)
theorem dX3_least_25 : decode cX3_least 25 = .ok (.iastore, 1) := dk_79 (dk_at dksX3_least_1 3 rfl rfl)
theorem dX3_least_26 : decode cX3_least 26 = .ok (.aload_n 0, 1) := dk_42 (dk_at dksX3_least_1 4 rfl rfl)
theorem dX3_least_27 : decode cX3_least 27 = .ok (.getfield 35, 3) := dk_180 0 35 (dk_at dksX3_least_1 5 rfl rfl)
theorem dX3_least_30 : decode cX3_least 30 = .ok (.iload_n 3, 1) := dk_29 (dk_at dksX3_least_1 8 rfl rfl)
theorem dX3_least_31 : decode cX3_least 31 = .ok (.aload_n 0, 1) := dk_42 (dk_at dksX3_least_1 9 rfl rfl)
theorem dX3_least_32 : decode cX3_least 32 = .ok (.iload_n 1, 1) := dk_27 (dk_at dksX3_least_1 10 rfl rfl)
theorem dX3_least_33 : decode cX3_least 33 = .ok (.iload_n 3, 1) := dk_29 (dk_at dksX3_least_1 11 rfl rfl)
theorem dX3_least_34 : decode cX3_least 34 = .ok (.iconst 0, 1) := dk_3 (dk_at dksX3_least_1 12 rfl rfl)
theorem dX3_least_35 : decode cX3_least 35 = .ok (.invokevirtual 118, 3) := dk_182 0 118 (dk_at dksX3_least_1 13 rfl rfl)
theorem dX3_least_38 : decode cX3_least 38 = .ok (.iastore, 1) := dk_79 (dk_at dksX3_least_1 16 rfl rfl)
theorem dX3_least_39 : decode cX3_least 39 = .ok (.iinc 3 1, 3) := dk_132 3 1 (dk_at dksX3_least_1 17 rfl rfl)
theorem dX3_least_42 : decode cX3_least 42 = .ok (.goto (-34), 3) := dk_167 255 222 (dk_at dksX3_least_1 20 rfl rfl)
theorem dX3_least_45 : decode cX3_least 45 = .ok (.iconst 1, 1) := dk_4 (dk_at dksX3_least_1 23 rfl rfl)
theorem dX3_least_46 : decode cX3_least 46 = .ok (.istore_n 3, 1) := dk_62 (dk_at dksX3_least_2 0 rfl rfl)
theorem dX3_least_47 : decode cX3_least 47 = .ok (.iload_n 3, 1) := dk_29 (dk_at dksX3_least_2 1 rfl rfl)
theorem dX3_least_48 : decode cX3_least 48 = .ok (.iconst 1, 1) := dk_4 (dk_at dksX3_least_2 2 rfl rfl)
theorem dX3_least_49 : decode cX3_least 49 = .ok (.iload_n 2, 1) := dk_28 (dk_at dksX3_least_2 3 rfl rfl)
theorem dX3_least_50 : decode cX3_least 50 = .ok (.ishl, 1) := dk_120 (dk_at dksX3_least_2 4 rfl rfl)
theorem dX3_least_51 : decode cX3_least 51 = .ok (.if_icmp .ge 150, 3) := dk_162 0 150 (dk_at dksX3_least_2 5 rfl rfl)
theorem dX3_least_54 : decode cX3_least 54 = .ok (.iconst 0, 1) := dk_3 (dk_at dksX3_least_2 8 rfl rfl)
theorem dX3_least_55 : decode cX3_least 55 = .ok (.istore 4, 2) := dk_54 4 (dk_at dksX3_least_2 9 rfl rfl)
theorem dX3_least_57 : decode cX3_least 57 = .ok (.iload 4, 2) := dk_21 4 (dk_at dksX3_least_2 11 rfl rfl)
theorem dX3_least_59 : decode cX3_least 59 = .ok (.iload_n 2, 1) := dk_28 (dk_at dksX3_least_2 13 rfl rfl)
theorem dX3_least_60 : decode cX3_least 60 = .ok (.if_icmp .ge 135, 3) := dk_162 0 135 (dk_at dksX3_least_2 14 rfl rfl)
theorem dX3_least_63 : decode cX3_least 63 = .ok (.iload_n 3, 1) := dk_29 (dk_at dksX3_least_2 17 rfl rfl)
theorem dX3_least_64 : decode cX3_least 64 = .ok (.iconst 1, 1) := dk_4 (dk_at dksX3_least_2 18 rfl rfl)
theorem dX3_least_65 : decode cX3_least 65 = .ok (.iload 4, 2) := dk_21 4 (dk_at dksX3_least_2 19 rfl rfl)
theorem dX3_least_67 : decode cX3_least 67 = .ok (.ishl, 1) := dk_120 (dk_at dksX3_least_2 21 rfl rfl)
theorem dX3_least_68 : decode cX3_least 68 = .ok (.iconst (-1), 1) := dk_2 (dk_at dksX3_least_2 22 rfl rfl)
theorem dX3_least_69 : decode cX3_least 69 = .ok (.ixor, 1) := dk_130 (dk_at dksX3_least_2 23 rfl rfl)
theorem dX3_least_70 : decode cX3_least 70 = .ok (.iand, 1) := dk_126 (dk_at dksX3_least_3 0 rfl rfl)
theorem dX3_least_71 : decode cX3_least 71 = .ok (.istore 5, 2) := dk_54 5 (dk_at dksX3_least_3 1 rfl rfl)
theorem dX3_least_73 : decode cX3_least 73 = .ok (.iload 5, 2) := dk_21 5 (dk_at dksX3_least_3 3 rfl rfl)
theorem dX3_least_75 : decode cX3_least 75 = .ok (.ifCond .ne 13, 3) := dk_154 0 13 (dk_at dksX3_least_3 5 rfl rfl)
theorem dX3_least_78 : decode cX3_least 78 = .ok (.aload_n 0, 1) := dk_42 (dk_at dksX3_least_3 8 rfl rfl)
theorem dX3_least_79 : decode cX3_least 79 = .ok (.iload_n 1, 1) := dk_27 (dk_at dksX3_least_3 9 rfl rfl)
theorem dX3_least_80 : decode cX3_least 80 = .ok (.iload 4, 2) := dk_21 4 (dk_at dksX3_least_3 10 rfl rfl)
theorem dX3_least_82 : decode cX3_least 82 = .ok (.invokevirtual 131, 3) := dk_182 0 131 (dk_at dksX3_least_3 12 rfl rfl)
theorem dX3_least_85 : decode cX3_least 85 = .ok (.goto 5, 3) := dk_167 0 5 (dk_at dksX3_least_3 15 rfl rfl)
theorem dX3_least_88 : decode cX3_least 88 = .ok (.ldc 149, 2) := dk_18 149 (dk_at dksX3_least_3 18 rfl rfl)
theorem dX3_least_90 : decode cX3_least 90 = .ok (.istore 6, 2) := dk_54 6 (dk_at dksX3_least_3 20 rfl rfl)
theorem dX3_least_92 : decode cX3_least 92 = .ok (.iconst 0, 1) := dk_3 (dk_at dksX3_least_3 22 rfl rfl)
theorem dX3_least_93 : decode cX3_least 93 = .ok (.istore 7, 2) := dk_54 7 (dk_at dksX3_least_4 0 rfl rfl)
theorem dX3_least_95 : decode cX3_least 95 = .ok (.iload 7, 2) := dk_21 7 (dk_at dksX3_least_4 2 rfl rfl)
theorem dX3_least_97 : decode cX3_least 97 = .ok (.iload_n 2, 1) := dk_28 (dk_at dksX3_least_4 4 rfl rfl)
theorem dX3_least_98 : decode cX3_least 98 = .ok (.if_icmp .ge 77, 3) := dk_162 0 77 (dk_at dksX3_least_4 5 rfl rfl)
theorem dX3_least_101 : decode cX3_least 101 = .ok (.iload 5, 2) := dk_21 5 (dk_at dksX3_least_4 8 rfl rfl)
theorem dX3_least_103 : decode cX3_least 103 = .ok (.iload_n 3, 1) := dk_29 (dk_at dksX3_least_4 10 rfl rfl)
theorem dX3_least_104 : decode cX3_least 104 = .ok (.if_icmp .eq 71, 3) := dk_159 0 71 (dk_at dksX3_least_4 11 rfl rfl)
theorem dX3_least_107 : decode cX3_least 107 = .ok (.iload 5, 2) := dk_21 5 (dk_at dksX3_least_4 14 rfl rfl)
theorem dX3_least_109 : decode cX3_least 109 = .ok (.iload 7, 2) := dk_21 7 (dk_at dksX3_least_4 16 rfl rfl)
theorem dX3_least_111 : decode cX3_least 111 = .ok (.ishr, 1) := dk_122 (dk_at dksX3_least_4 18 rfl rfl)
theorem dX3_least_112 : decode cX3_least 112 = .ok (.iconst 1, 1) := dk_4 (dk_at dksX3_least_4 19 rfl rfl)
theorem dX3_least_113 : decode cX3_least 113 = .ok (.iand, 1) := dk_126 (dk_at dksX3_least_4 20 rfl rfl)
theorem dX3_least_114 : decode cX3_least 114 = .ok (.iconst 1, 1) := dk_4 (dk_at dksX3_least_4 21 rfl rfl)
theorem dX3_least_115 : decode cX3_least 115 = .ok (.if_icmp .ne 54, 3) := dk_160 0 54 (dk_at dksX3_least_5 0 rfl rfl)
theorem dX3_least_118 : decode cX3_least 118 = .ok (.aload_n 0, 1) := dk_42 (dk_at dksX3_least_5 3 rfl rfl)
theorem dX3_least_119 : decode cX3_least 119 = .ok (.getfield 38, 3) := dk_180 0 38 (dk_at dksX3_least_5 4 rfl rfl)
theorem dX3_least_122 : decode cX3_least 122 = .ok (.bipush 8, 2) := dk_16 8 (dk_at dksX3_least_5 7 rfl rfl)
theorem dX3_least_124 : decode cX3_least 124 = .ok (.iload 5, 2) := dk_21 5 (dk_at dksX3_least_5 9 rfl rfl)
theorem dX3_least_126 : decode cX3_least 126 = .ok (.imul, 1) := dk_104 (dk_at dksX3_least_5 11 rfl rfl)
theorem dX3_least_127 : decode cX3_least 127 = .ok (.iload 7, 2) := dk_21 7 (dk_at dksX3_least_5 12 rfl rfl)
theorem dX3_least_129 : decode cX3_least 129 = .ok (.iadd, 1) := dk_96 (dk_at dksX3_least_5 14 rfl rfl)
theorem dX3_least_130 : decode cX3_least 130 = .ok (.iaload, 1) := dk_46 (dk_at dksX3_least_5 15 rfl rfl)
theorem dX3_least_131 : decode cX3_least 131 = .ok (.aload_n 0, 1) := dk_42 (dk_at dksX3_least_5 16 rfl rfl)
theorem dX3_least_132 : decode cX3_least 132 = .ok (.iload 7, 2) := dk_21 7 (dk_at dksX3_least_5 17 rfl rfl)
theorem dX3_least_134 : decode cX3_least 134 = .ok (.iload 4, 2) := dk_21 4 (dk_at dksX3_least_5 19 rfl rfl)
theorem dX3_least_136 : decode cX3_least 136 = .ok (.invokevirtual 150, 3) := dk_182 0 150 (dk_at dksX3_least_5 21 rfl rfl)
theorem dX3_least_139 : decode cX3_least 139 = .ok (.iadd, 1) := dk_96 (dk_at dksX3_least_6 0 rfl rfl)
theorem dX3_least_140 : decode cX3_least 140 = .ok (.iload 6, 2) := dk_21 6 (dk_at dksX3_least_6 1 rfl rfl)
theorem dX3_least_142 : decode cX3_least 142 = .ok (.if_icmp .ge 27, 3) := dk_162 0 27 (dk_at dksX3_least_6 3 rfl rfl)
theorem dX3_least_145 : decode cX3_least 145 = .ok (.aload_n 0, 1) := dk_42 (dk_at dksX3_least_6 6 rfl rfl)
theorem dX3_least_146 : decode cX3_least 146 = .ok (.getfield 38, 3) := dk_180 0 38 (dk_at dksX3_least_6 7 rfl rfl)
theorem dX3_least_149 : decode cX3_least 149 = .ok (.bipush 8, 2) := dk_16 8 (dk_at dksX3_least_6 10 rfl rfl)
theorem dX3_least_151 : decode cX3_least 151 = .ok (.iload 5, 2) := dk_21 5 (dk_at dksX3_least_6 12 rfl rfl)
theorem dX3_least_153 : decode cX3_least 153 = .ok (.imul, 1) := dk_104 (dk_at dksX3_least_6 14 rfl rfl)
theorem dX3_least_154 : decode cX3_least 154 = .ok (.iload 7, 2) := dk_21 7 (dk_at dksX3_least_6 15 rfl rfl)
theorem dX3_least_156 : decode cX3_least 156 = .ok (.iadd, 1) := dk_96 (dk_at dksX3_least_6 17 rfl rfl)
theorem dX3_least_157 : decode cX3_least 157 = .ok (.iaload, 1) := dk_46 (dk_at dksX3_least_6 18 rfl rfl)
theorem dX3_least_158 : decode cX3_least 158 = .ok (.aload_n 0, 1) := dk_42 (dk_at dksX3_least_6 19 rfl rfl)
theorem dX3_least_159 : decode cX3_least 159 = .ok (.iload 7, 2) := dk_21 7 (dk_at dksX3_least_6 20 rfl rfl)
theorem dX3_least_161 : decode cX3_least 161 = .ok (.iload 4, 2) := dk_21 4 (dk_at dksX3_least_6 22 rfl rfl)
theorem dX3_least_163 : decode cX3_least 163 = .ok (.invokevirtual 150, 3) := dk_182 0 150 (dk_at dksX3_least_7 0 rfl rfl)
theorem dX3_least_166 : decode cX3_least 166 = .ok (.iadd, 1) := dk_96 (dk_at dksX3_least_7 3 rfl rfl)
theorem dX3_least_167 : decode cX3_least 167 = .ok (.istore 6, 2) := dk_54 6 (dk_at dksX3_least_7 4 rfl rfl)
theorem dX3_least_169 : decode cX3_least 169 = .ok (.iinc 7 1, 3) := dk_132 7 1 (dk_at dksX3_least_7 6 rfl rfl)
theorem dX3_least_172 : decode cX3_least 172 = .ok (.goto (-77), 3) := dk_167 255 179 (dk_at dksX3_least_7 9 rfl rfl)
theorem dX3_least_175 : decode cX3_least 175 = .ok (.aload_n 0, 1) := dk_42 (dk_at dksX3_least_7 12 rfl rfl)
theorem dX3_least_176 : decode cX3_least 176 = .ok (.getfield 38, 3) := dk_180 0 38 (dk_at dksX3_least_7 13 rfl rfl)
theorem dX3_least_179 : decode cX3_least 179 = .ok (.bipush 8, 2) := dk_16 8 (dk_at dksX3_least_7 16 rfl rfl)
theorem dX3_least_181 : decode cX3_least 181 = .ok (.iload_n 3, 1) := dk_29 (dk_at dksX3_least_7 18 rfl rfl)
theorem dX3_least_182 : decode cX3_least 182 = .ok (.imul, 1) := dk_104 (dk_at dksX3_least_7 19 rfl rfl)
theorem dX3_least_183 : decode cX3_least 183 = .ok (.iload 4, 2) := dk_21 4 (dk_at dksX3_least_7 20 rfl rfl)
theorem dX3_least_185 : decode cX3_least 185 = .ok (.iadd, 1) := dk_96 (dk_at dksX3_least_7 22 rfl rfl)
theorem dX3_least_186 : decode cX3_least 186 = .ok (.iload 6, 2) := dk_21 6 (dk_at dksX3_least_8 0 rfl rfl)
theorem dX3_least_188 : decode cX3_least 188 = .ok (.iastore, 1) := dk_79 (dk_at dksX3_least_8 2 rfl rfl)
theorem dX3_least_189 : decode cX3_least 189 = .ok (.iinc 4 1, 3) := dk_132 4 1 (dk_at dksX3_least_8 3 rfl rfl)
theorem dX3_least_192 : decode cX3_least 192 = .ok (.goto (-135), 3) := dk_167 255 121 (dk_at dksX3_least_8 6 rfl rfl)
theorem dX3_least_195 : decode cX3_least 195 = .ok (.iinc 3 1, 3) := dk_132 3 1 (dk_at dksX3_least_8 9 rfl rfl)
theorem dX3_least_198 : decode cX3_least 198 = .ok (.goto (-151), 3) := dk_167 255 105 (dk_at dksX3_least_8 12 rfl rfl)
theorem dX3_least_201 : decode cX3_least 201 = .ok (.ldc 149, 2) := dk_18 149 (dk_at dksX3_least_8 15 rfl rfl)
theorem dX3_least_203 : decode cX3_least 203 = .ok (.istore_n 3, 1) := dk_62 (dk_at dksX3_least_8 17 rfl rfl)
theorem dX3_least_204 : decode cX3_least 204 = .ok (.iconst 0, 1) := dk_3 (dk_at dksX3_least_8 18 rfl rfl)
theorem dX3_least_205 : decode cX3_least 205 = .ok (.istore 4, 2) := dk_54 4 (dk_at dksX3_least_8 19 rfl rfl)
theorem dX3_least_207 : decode cX3_least 207 = .ok (.iload 4, 2) := dk_21 4 (dk_at dksX3_least_8 21 rfl rfl)
theorem dX3_least_209 : decode cX3_least 209 = .ok (.iload_n 2, 1) := dk_28 (dk_at dksX3_least_8 23 rfl rfl)
theorem dX3_least_210 : decode cX3_least 210 = .ok (.if_icmp .ge 40, 3) := dk_162 0 40 (dk_at dksX3_least_9 0 rfl rfl)
theorem dX3_least_213 : decode cX3_least 213 = .ok (.aload_n 0, 1) := dk_42 (dk_at dksX3_least_9 3 rfl rfl)
theorem dX3_least_214 : decode cX3_least 214 = .ok (.getfield 38, 3) := dk_180 0 38 (dk_at dksX3_least_9 4 rfl rfl)
theorem dX3_least_217 : decode cX3_least 217 = .ok (.bipush 8, 2) := dk_16 8 (dk_at dksX3_least_9 7 rfl rfl)
theorem dX3_least_219 : decode cX3_least 219 = .ok (.iconst 1, 1) := dk_4 (dk_at dksX3_least_9 9 rfl rfl)
theorem dX3_least_220 : decode cX3_least 220 = .ok (.iload_n 2, 1) := dk_28 (dk_at dksX3_least_9 10 rfl rfl)
theorem dX3_least_221 : decode cX3_least 221 = .ok (.ishl, 1) := dk_120 (dk_at dksX3_least_9 11 rfl rfl)
theorem dX3_least_222 : decode cX3_least 222 = .ok (.iconst 1, 1) := dk_4 (dk_at dksX3_least_9 12 rfl rfl)
theorem dX3_least_223 : decode cX3_least 223 = .ok (.isub, 1) := dk_100 (dk_at dksX3_least_9 13 rfl rfl)
theorem dX3_least_224 : decode cX3_least 224 = .ok (.imul, 1) := dk_104 (dk_at dksX3_least_9 14 rfl rfl)
theorem dX3_least_225 : decode cX3_least 225 = .ok (.iload 4, 2) := dk_21 4 (dk_at dksX3_least_9 15 rfl rfl)
theorem dX3_least_227 : decode cX3_least 227 = .ok (.iadd, 1) := dk_96 (dk_at dksX3_least_9 17 rfl rfl)
theorem dX3_least_228 : decode cX3_least 228 = .ok (.iaload, 1) := dk_46 (dk_at dksX3_least_9 18 rfl rfl)
theorem dX3_least_229 : decode cX3_least 229 = .ok (.istore 5, 2) := dk_54 5 (dk_at dksX3_least_9 19 rfl rfl)
theorem dX3_least_231 : decode cX3_least 231 = .ok (.iload 5, 2) := dk_21 5 (dk_at dksX3_least_9 21 rfl rfl)
theorem dX3_least_233 : decode cX3_least 233 = .ok (.iload_n 3, 1) := dk_29 (dk_at dksX3_least_9 23 rfl rfl)
theorem dX3_least_234 : decode cX3_least 234 = .ok (.if_icmp .ge 8, 3) := dk_162 0 8 (dk_at dksX3_least_10 0 rfl rfl)
theorem dX3_least_237 : decode cX3_least 237 = .ok (.iload 5, 2) := dk_21 5 (dk_at dksX3_least_10 3 rfl rfl)
theorem dX3_least_239 : decode cX3_least 239 = .ok (.goto 4, 3) := dk_167 0 4 (dk_at dksX3_least_10 5 rfl rfl)
theorem dX3_least_242 : decode cX3_least 242 = .ok (.iload_n 3, 1) := dk_29 (dk_at dksX3_least_10 8 rfl rfl)
theorem dX3_least_243 : decode cX3_least 243 = .ok (.istore_n 3, 1) := dk_62 (dk_at dksX3_least_10 9 rfl rfl)
theorem dX3_least_244 : decode cX3_least 244 = .ok (.iinc 4 1, 3) := dk_132 4 1 (dk_at dksX3_least_10 10 rfl rfl)
theorem dX3_least_247 : decode cX3_least 247 = .ok (.goto (-40), 3) := dk_167 255 216 (dk_at dksX3_least_10 13 rfl rfl)
theorem dX3_least_250 : decode cX3_least 250 = .ok (.iload_n 3, 1) := dk_29 (dk_at dksX3_least_10 16 rfl rfl)
theorem dX3_least_251 : decode cX3_least 251 = .ok (.ireturn, 1) := dk_172 (dk_at dksX3_least_10 17 rfl rfl)
abbrev cX3_change : ByteArray := prog_15_method_32_code
def yX3_change : MethodName := ⟨RX3, "change", "(II)I"⟩
def dkwX3_change_1 : List UInt8 := [180, 0, 35, 27, 46, 42, 180, 0, 35, 28, 46, 160, 0, 7, 3, 167, 0, 5, 16, 20, 96, 172]
abbrev dktX3_change_1 : List UInt8 := dkwX3_change_1 ++ []
def dkwX3_change_0 : List UInt8 := [42, 180, 0, 32, 27, 46, 42, 180, 0, 32, 28, 46, 160, 0, 7, 3, 167, 0, 5, 16, 20, 42]
abbrev dktX3_change_0 : List UInt8 := dkwX3_change_0 ++ dktX3_change_1
theorem dksX3_change_0 : cX3_change.data.toList.drop 0 = dktX3_change_0 := by decide +kernel
theorem dksX3_change_1 : cX3_change.data.toList.drop 22 = dktX3_change_1 := dk_seg dksX3_change_0 22 rfl rfl
theorem dX3_change_0 : decode cX3_change 0 = .ok (.aload_n 0, 1) := dk_42 (dk_at dksX3_change_0 0 rfl rfl)
theorem dX3_change_1 : decode cX3_change 1 = .ok (.getfield 32, 3) := dk_180 0 32 (dk_at dksX3_change_0 1 rfl rfl)
theorem dX3_change_4 : decode cX3_change 4 = .ok (.iload_n 1, 1) := dk_27 (dk_at dksX3_change_0 4 rfl rfl)
theorem dX3_change_5 : decode cX3_change 5 = .ok (.iaload, 1) := dk_46 (dk_at dksX3_change_0 5 rfl rfl)
theorem dX3_change_6 : decode cX3_change 6 = .ok (.aload_n 0, 1) := dk_42 (dk_at dksX3_change_0 6 rfl rfl)
theorem dX3_change_7 : decode cX3_change 7 = .ok (.getfield 32, 3) := dk_180 0 32 (dk_at dksX3_change_0 7 rfl rfl)
theorem dX3_change_10 : decode cX3_change 10 = .ok (.iload_n 2, 1) := dk_28 (dk_at dksX3_change_0 10 rfl rfl)
theorem dX3_change_11 : decode cX3_change 11 = .ok (.iaload, 1) := dk_46 (dk_at dksX3_change_0 11 rfl rfl)
theorem dX3_change_12 : decode cX3_change 12 = .ok (.if_icmp .ne 7, 3) := dk_160 0 7 (dk_at dksX3_change_0 12 rfl rfl)
theorem dX3_change_15 : decode cX3_change 15 = .ok (.iconst 0, 1) := dk_3 (dk_at dksX3_change_0 15 rfl rfl)
theorem dX3_change_16 : decode cX3_change 16 = .ok (.goto 5, 3) := dk_167 0 5 (dk_at dksX3_change_0 16 rfl rfl)
theorem dX3_change_19 : decode cX3_change 19 = .ok (.bipush 20, 2) := dk_16 20 (dk_at dksX3_change_0 19 rfl rfl)
theorem dX3_change_21 : decode cX3_change 21 = .ok (.aload_n 0, 1) := dk_42 (dk_at dksX3_change_0 21 rfl rfl)
theorem dX3_change_22 : decode cX3_change 22 = .ok (.getfield 35, 3) := dk_180 0 35 (dk_at dksX3_change_1 0 rfl rfl)
theorem dX3_change_25 : decode cX3_change 25 = .ok (.iload_n 1, 1) := dk_27 (dk_at dksX3_change_1 3 rfl rfl)
theorem dX3_change_26 : decode cX3_change 26 = .ok (.iaload, 1) := dk_46 (dk_at dksX3_change_1 4 rfl rfl)
theorem dX3_change_27 : decode cX3_change 27 = .ok (.aload_n 0, 1) := dk_42 (dk_at dksX3_change_1 5 rfl rfl)
theorem dX3_change_28 : decode cX3_change 28 = .ok (.getfield 35, 3) := dk_180 0 35 (dk_at dksX3_change_1 6 rfl rfl)
theorem dX3_change_31 : decode cX3_change 31 = .ok (.iload_n 2, 1) := dk_28 (dk_at dksX3_change_1 9 rfl rfl)
theorem dX3_change_32 : decode cX3_change 32 = .ok (.iaload, 1) := dk_46 (dk_at dksX3_change_1 10 rfl rfl)
theorem dX3_change_33 : decode cX3_change 33 = .ok (.if_icmp .ne 7, 3) := dk_160 0 7 (dk_at dksX3_change_1 11 rfl rfl)
theorem dX3_change_36 : decode cX3_change 36 = .ok (.iconst 0, 1) := dk_3 (dk_at dksX3_change_1 14 rfl rfl)
theorem dX3_change_37 : decode cX3_change 37 = .ok (.goto 5, 3) := dk_167 0 5 (dk_at dksX3_change_1 15 rfl rfl)
theorem dX3_change_40 : decode cX3_change 40 = .ok (.bipush 20, 2) := dk_16 20 (dk_at dksX3_change_1 18 rfl rfl)
theorem dX3_change_42 : decode cX3_change 42 = .ok (.iadd, 1) := dk_96 (dk_at dksX3_change_1 20 rfl rfl)
theorem dX3_change_43 : decode cX3_change 43 = .ok (.ireturn, 1) := dk_172 (dk_at dksX3_change_1 21 rfl rfl)
abbrev cX3_leastByTrying : ByteArray := prog_15_method_35_code
def yX3_leastByTrying : MethodName := ⟨RX3, "leastByTrying", "(I)I"⟩
def dkwX3_leastByTrying_1 : List UInt8 := [182, 0, 101, 167, 0, 8, 42, 27, 182, 0, 153, 172]
abbrev dktX3_leastByTrying_1 : List UInt8 := dkwX3_leastByTrying_1 ++ []
def dkwX3_leastByTrying_0 : List UInt8 := [42, 27, 182, 0, 75, 154, 0, 5, 3, 172, 42, 27, 182, 0, 78, 16, 6, 164, 0, 11, 42, 6]
abbrev dktX3_leastByTrying_0 : List UInt8 := dkwX3_leastByTrying_0 ++ dktX3_leastByTrying_1
theorem dksX3_leastByTrying_0 : cX3_leastByTrying.data.toList.drop 0 = dktX3_leastByTrying_0 := by decide +kernel
theorem dksX3_leastByTrying_1 : cX3_leastByTrying.data.toList.drop 22 = dktX3_leastByTrying_1 := dk_seg dksX3_leastByTrying_0 22 rfl rfl
theorem dX3_leastByTrying_0 : decode cX3_leastByTrying 0 = .ok (.aload_n 0, 1) := dk_42 (dk_at dksX3_leastByTrying_0 0 rfl rfl)
theorem dX3_leastByTrying_1 : decode cX3_leastByTrying 1 = .ok (.iload_n 1, 1) := dk_27 (dk_at dksX3_leastByTrying_0 1 rfl rfl)
theorem dX3_leastByTrying_2 : decode cX3_leastByTrying 2 = .ok (.invokevirtual 75, 3) := dk_182 0 75 (dk_at dksX3_leastByTrying_0 2 rfl rfl)
theorem dX3_leastByTrying_5 : decode cX3_leastByTrying 5 = .ok (.ifCond .ne 5, 3) := dk_154 0 5 (dk_at dksX3_leastByTrying_0 5 rfl rfl)
theorem dX3_leastByTrying_8 : decode cX3_leastByTrying 8 = .ok (.iconst 0, 1) := dk_3 (dk_at dksX3_leastByTrying_0 8 rfl rfl)
theorem dX3_leastByTrying_9 : decode cX3_leastByTrying 9 = .ok (.ireturn, 1) := dk_172 (dk_at dksX3_leastByTrying_0 9 rfl rfl)
theorem dX3_leastByTrying_10 : decode cX3_leastByTrying 10 = .ok (.aload_n 0, 1) := dk_42 (dk_at dksX3_leastByTrying_0 10 rfl rfl)
theorem dX3_leastByTrying_11 : decode cX3_leastByTrying 11 = .ok (.iload_n 1, 1) := dk_27 (dk_at dksX3_leastByTrying_0 11 rfl rfl)
theorem dX3_leastByTrying_12 : decode cX3_leastByTrying 12 = .ok (.invokevirtual 78, 3) := dk_182 0 78 (dk_at dksX3_leastByTrying_0 12 rfl rfl)
theorem dX3_leastByTrying_15 : decode cX3_leastByTrying 15 = .ok (.bipush 6, 2) := dk_16 6 (dk_at dksX3_leastByTrying_0 15 rfl rfl)
theorem dX3_leastByTrying_17 : decode cX3_leastByTrying 17 = .ok (.if_icmp .le 11, 3) := dk_164 0 11 (dk_at dksX3_leastByTrying_0 17 rfl rfl)
theorem dX3_leastByTrying_20 : decode cX3_leastByTrying 20 = .ok (.aload_n 0, 1) := dk_42 (dk_at dksX3_leastByTrying_0 20 rfl rfl)
theorem dX3_leastByTrying_21 : decode cX3_leastByTrying 21 = .ok (.iconst 3, 1) := dk_6 (dk_at dksX3_leastByTrying_0 21 rfl rfl)
theorem dX3_leastByTrying_22 : decode cX3_leastByTrying 22 = .ok (.invokevirtual 101, 3) := dk_182 0 101 (dk_at dksX3_leastByTrying_1 0 rfl rfl)
theorem dX3_leastByTrying_25 : decode cX3_leastByTrying 25 = .ok (.goto 8, 3) := dk_167 0 8 (dk_at dksX3_leastByTrying_1 3 rfl rfl)
theorem dX3_leastByTrying_28 : decode cX3_leastByTrying 28 = .ok (.aload_n 0, 1) := dk_42 (dk_at dksX3_leastByTrying_1 6 rfl rfl)
theorem dX3_leastByTrying_29 : decode cX3_leastByTrying 29 = .ok (.iload_n 1, 1) := dk_27 (dk_at dksX3_leastByTrying_1 7 rfl rfl)
theorem dX3_leastByTrying_30 : decode cX3_leastByTrying 30 = .ok (.invokevirtual 153, 3) := dk_182 0 153 (dk_at dksX3_leastByTrying_1 8 rfl rfl)
theorem dX3_leastByTrying_33 : decode cX3_leastByTrying 33 = .ok (.ireturn, 1) := dk_172 (dk_at dksX3_leastByTrying_1 11 rfl rfl)
abbrev cX3_stock : ByteArray := prog_15_method_36_code
def yX3_stock : MethodName := ⟨RX3, "stock", "(II)I"⟩
def dkwX3_stock_1 : List UInt8 := [172]
abbrev dktX3_stock_1 : List UInt8 := dkwX3_stock_1 ++ []
def dkwX3_stock_0 : List UInt8 := [42, 27, 28, 182, 0, 114, 153, 0, 17, 42, 180, 0, 22, 16, 8, 27, 104, 28, 96, 46, 167, 0, 4, 3]
abbrev dktX3_stock_0 : List UInt8 := dkwX3_stock_0 ++ dktX3_stock_1
theorem dksX3_stock_0 : cX3_stock.data.toList.drop 0 = dktX3_stock_0 := by decide +kernel
theorem dksX3_stock_1 : cX3_stock.data.toList.drop 24 = dktX3_stock_1 := dk_seg dksX3_stock_0 24 rfl rfl
theorem dX3_stock_0 : decode cX3_stock 0 = .ok (.aload_n 0, 1) := dk_42 (dk_at dksX3_stock_0 0 rfl rfl)
theorem dX3_stock_1 : decode cX3_stock 1 = .ok (.iload_n 1, 1) := dk_27 (dk_at dksX3_stock_0 1 rfl rfl)
theorem dX3_stock_2 : decode cX3_stock 2 = .ok (.iload_n 2, 1) := dk_28 (dk_at dksX3_stock_0 2 rfl rfl)
theorem dX3_stock_3 : decode cX3_stock 3 = .ok (.invokevirtual 114, 3) := dk_182 0 114 (dk_at dksX3_stock_0 3 rfl rfl)
theorem dX3_stock_6 : decode cX3_stock 6 = .ok (.ifCond .eq 17, 3) := dk_153 0 17 (dk_at dksX3_stock_0 6 rfl rfl)
theorem dX3_stock_9 : decode cX3_stock 9 = .ok (.aload_n 0, 1) := dk_42 (dk_at dksX3_stock_0 9 rfl rfl)
theorem dX3_stock_10 : decode cX3_stock 10 = .ok (.getfield 22, 3) := dk_180 0 22 (dk_at dksX3_stock_0 10 rfl rfl)
theorem dX3_stock_13 : decode cX3_stock 13 = .ok (.bipush 8, 2) := dk_16 8 (dk_at dksX3_stock_0 13 rfl rfl)
theorem dX3_stock_15 : decode cX3_stock 15 = .ok (.iload_n 1, 1) := dk_27 (dk_at dksX3_stock_0 15 rfl rfl)
theorem dX3_stock_16 : decode cX3_stock 16 = .ok (.imul, 1) := dk_104 (dk_at dksX3_stock_0 16 rfl rfl)
theorem dX3_stock_17 : decode cX3_stock 17 = .ok (.iload_n 2, 1) := dk_28 (dk_at dksX3_stock_0 17 rfl rfl)
theorem dX3_stock_18 : decode cX3_stock 18 = .ok (.iadd, 1) := dk_96 (dk_at dksX3_stock_0 18 rfl rfl)
theorem dX3_stock_19 : decode cX3_stock 19 = .ok (.iaload, 1) := dk_46 (dk_at dksX3_stock_0 19 rfl rfl)
theorem dX3_stock_20 : decode cX3_stock 20 = .ok (.goto 4, 3) := dk_167 0 4 (dk_at dksX3_stock_0 20 rfl rfl)
theorem dX3_stock_23 : decode cX3_stock 23 = .ok (.iconst 0, 1) := dk_3 (dk_at dksX3_stock_0 23 rfl rfl)
theorem dX3_stock_24 : decode cX3_stock 24 = .ok (.ireturn, 1) := dk_172 (dk_at dksX3_stock_1 0 rfl rfl)
abbrev cX3_plates : ByteArray := prog_15_method_37_code
def yX3_plates : MethodName := ⟨RX3, "plates", "()I"⟩
def dkwX3_plates_0 : List UInt8 := [42, 3, 181, 0, 53, 42, 180, 0, 91, 172]
abbrev dktX3_plates_0 : List UInt8 := dkwX3_plates_0 ++ []
theorem dksX3_plates_0 : cX3_plates.data.toList.drop 0 = dktX3_plates_0 := by decide +kernel
theorem dX3_plates_0 : decode cX3_plates 0 = .ok (.aload_n 0, 1) := dk_42 (dk_at dksX3_plates_0 0 rfl rfl)
theorem dX3_plates_1 : decode cX3_plates 1 = .ok (.iconst 0, 1) := dk_3 (dk_at dksX3_plates_0 1 rfl rfl)
theorem dX3_plates_2 : decode cX3_plates 2 = .ok (.putfield 53, 3) := dk_181 0 53 (dk_at dksX3_plates_0 2 rfl rfl)
theorem dX3_plates_5 : decode cX3_plates 5 = .ok (.aload_n 0, 1) := dk_42 (dk_at dksX3_plates_0 5 rfl rfl)
theorem dX3_plates_6 : decode cX3_plates 6 = .ok (.getfield 91, 3) := dk_180 0 91 (dk_at dksX3_plates_0 6 rfl rfl)
theorem dX3_plates_9 : decode cX3_plates 9 = .ok (.ireturn, 1) := dk_172 (dk_at dksX3_plates_0 9 rfl rfl)
abbrev cX3_platesNeeded : ByteArray := prog_15_method_38_code
def yX3_platesNeeded : MethodName := ⟨RX3, "platesNeeded", "(I)I"⟩
def dkwX3_platesNeeded_2 : List UInt8 := [182, 0, 134, 132, 3, 1, 167, 255, 222, 42, 180, 0, 91, 28, 100, 62, 42, 28, 181, 0, 91, 29, 172]
abbrev dktX3_platesNeeded_2 : List UInt8 := dkwX3_platesNeeded_2 ++ []
def dkwX3_platesNeeded_1 : List UInt8 := [162, 0, 31, 42, 42, 27, 29, 4, 182, 0, 118, 182, 0, 134, 42, 42, 27, 29, 3, 182, 0, 118]
abbrev dktX3_platesNeeded_1 : List UInt8 := dkwX3_platesNeeded_1 ++ dktX3_platesNeeded_2
def dkwX3_platesNeeded_0 : List UInt8 := [42, 27, 182, 0, 75, 154, 0, 5, 3, 172, 42, 180, 0, 91, 61, 3, 62, 29, 42, 27, 182, 0, 78]
abbrev dktX3_platesNeeded_0 : List UInt8 := dkwX3_platesNeeded_0 ++ dktX3_platesNeeded_1
theorem dksX3_platesNeeded_0 : cX3_platesNeeded.data.toList.drop 0 = dktX3_platesNeeded_0 := by decide +kernel
theorem dksX3_platesNeeded_1 : cX3_platesNeeded.data.toList.drop 23 = dktX3_platesNeeded_1 := dk_seg dksX3_platesNeeded_0 23 rfl rfl
theorem dksX3_platesNeeded_2 : cX3_platesNeeded.data.toList.drop 45 = dktX3_platesNeeded_2 := dk_seg dksX3_platesNeeded_1 22 rfl rfl
theorem dX3_platesNeeded_0 : decode cX3_platesNeeded 0 = .ok (.aload_n 0, 1) := dk_42 (dk_at dksX3_platesNeeded_0 0 rfl rfl)
theorem dX3_platesNeeded_1 : decode cX3_platesNeeded 1 = .ok (.iload_n 1, 1) := dk_27 (dk_at dksX3_platesNeeded_0 1 rfl rfl)
theorem dX3_platesNeeded_2 : decode cX3_platesNeeded 2 = .ok (.invokevirtual 75, 3) := dk_182 0 75 (dk_at dksX3_platesNeeded_0 2 rfl rfl)
theorem dX3_platesNeeded_5 : decode cX3_platesNeeded 5 = .ok (.ifCond .ne 5, 3) := dk_154 0 5 (dk_at dksX3_platesNeeded_0 5 rfl rfl)
theorem dX3_platesNeeded_8 : decode cX3_platesNeeded 8 = .ok (.iconst 0, 1) := dk_3 (dk_at dksX3_platesNeeded_0 8 rfl rfl)
theorem dX3_platesNeeded_9 : decode cX3_platesNeeded 9 = .ok (.ireturn, 1) := dk_172 (dk_at dksX3_platesNeeded_0 9 rfl rfl)
theorem dX3_platesNeeded_10 : decode cX3_platesNeeded 10 = .ok (.aload_n 0, 1) := dk_42 (dk_at dksX3_platesNeeded_0 10 rfl rfl)
theorem dX3_platesNeeded_11 : decode cX3_platesNeeded 11 = .ok (.getfield 91, 3) := dk_180 0 91 (dk_at dksX3_platesNeeded_0 11 rfl rfl)
theorem dX3_platesNeeded_14 : decode cX3_platesNeeded 14 = .ok (.istore_n 2, 1) := dk_61 (dk_at dksX3_platesNeeded_0 14 rfl rfl)
theorem dX3_platesNeeded_15 : decode cX3_platesNeeded 15 = .ok (.iconst 0, 1) := dk_3 (dk_at dksX3_platesNeeded_0 15 rfl rfl)
theorem dX3_platesNeeded_16 : decode cX3_platesNeeded 16 = .ok (.istore_n 3, 1) := dk_62 (dk_at dksX3_platesNeeded_0 16 rfl rfl)
theorem dX3_platesNeeded_17 : decode cX3_platesNeeded 17 = .ok (.iload_n 3, 1) := dk_29 (dk_at dksX3_platesNeeded_0 17 rfl rfl)
theorem dX3_platesNeeded_18 : decode cX3_platesNeeded 18 = .ok (.aload_n 0, 1) := dk_42 (dk_at dksX3_platesNeeded_0 18 rfl rfl)
theorem dX3_platesNeeded_19 : decode cX3_platesNeeded 19 = .ok (.iload_n 1, 1) := dk_27 (dk_at dksX3_platesNeeded_0 19 rfl rfl)
theorem dX3_platesNeeded_20 : decode cX3_platesNeeded 20 = .ok (.invokevirtual 78, 3) := dk_182 0 78 (dk_at dksX3_platesNeeded_0 20 rfl rfl)
theorem dX3_platesNeeded_23 : decode cX3_platesNeeded 23 = .ok (.if_icmp .ge 31, 3) := dk_162 0 31 (dk_at dksX3_platesNeeded_1 0 rfl rfl)
theorem dX3_platesNeeded_26 : decode cX3_platesNeeded 26 = .ok (.aload_n 0, 1) := dk_42 (dk_at dksX3_platesNeeded_1 3 rfl rfl)
theorem dX3_platesNeeded_27 : decode cX3_platesNeeded 27 = .ok (.aload_n 0, 1) := dk_42 (dk_at dksX3_platesNeeded_1 4 rfl rfl)
theorem dX3_platesNeeded_28 : decode cX3_platesNeeded 28 = .ok (.iload_n 1, 1) := dk_27 (dk_at dksX3_platesNeeded_1 5 rfl rfl)
theorem dX3_platesNeeded_29 : decode cX3_platesNeeded 29 = .ok (.iload_n 3, 1) := dk_29 (dk_at dksX3_platesNeeded_1 6 rfl rfl)
theorem dX3_platesNeeded_30 : decode cX3_platesNeeded 30 = .ok (.iconst 1, 1) := dk_4 (dk_at dksX3_platesNeeded_1 7 rfl rfl)
theorem dX3_platesNeeded_31 : decode cX3_platesNeeded 31 = .ok (.invokevirtual 118, 3) := dk_182 0 118 (dk_at dksX3_platesNeeded_1 8 rfl rfl)
theorem dX3_platesNeeded_34 : decode cX3_platesNeeded 34 = .ok (.invokevirtual 134, 3) := dk_182 0 134 (dk_at dksX3_platesNeeded_1 11 rfl rfl)
theorem dX3_platesNeeded_37 : decode cX3_platesNeeded 37 = .ok (.aload_n 0, 1) := dk_42 (dk_at dksX3_platesNeeded_1 14 rfl rfl)
theorem dX3_platesNeeded_38 : decode cX3_platesNeeded 38 = .ok (.aload_n 0, 1) := dk_42 (dk_at dksX3_platesNeeded_1 15 rfl rfl)
theorem dX3_platesNeeded_39 : decode cX3_platesNeeded 39 = .ok (.iload_n 1, 1) := dk_27 (dk_at dksX3_platesNeeded_1 16 rfl rfl)
theorem dX3_platesNeeded_40 : decode cX3_platesNeeded 40 = .ok (.iload_n 3, 1) := dk_29 (dk_at dksX3_platesNeeded_1 17 rfl rfl)
theorem dX3_platesNeeded_41 : decode cX3_platesNeeded 41 = .ok (.iconst 0, 1) := dk_3 (dk_at dksX3_platesNeeded_1 18 rfl rfl)
theorem dX3_platesNeeded_42 : decode cX3_platesNeeded 42 = .ok (.invokevirtual 118, 3) := dk_182 0 118 (dk_at dksX3_platesNeeded_1 19 rfl rfl)
theorem dX3_platesNeeded_45 : decode cX3_platesNeeded 45 = .ok (.invokevirtual 134, 3) := dk_182 0 134 (dk_at dksX3_platesNeeded_2 0 rfl rfl)
theorem dX3_platesNeeded_48 : decode cX3_platesNeeded 48 = .ok (.iinc 3 1, 3) := dk_132 3 1 (dk_at dksX3_platesNeeded_2 3 rfl rfl)
theorem dX3_platesNeeded_51 : decode cX3_platesNeeded 51 = .ok (.goto (-34), 3) := dk_167 255 222 (dk_at dksX3_platesNeeded_2 6 rfl rfl)
theorem dX3_platesNeeded_54 : decode cX3_platesNeeded 54 = .ok (.aload_n 0, 1) := dk_42 (dk_at dksX3_platesNeeded_2 9 rfl rfl)
theorem dX3_platesNeeded_55 : decode cX3_platesNeeded 55 = .ok (.getfield 91, 3) := dk_180 0 91 (dk_at dksX3_platesNeeded_2 10 rfl rfl)
theorem dX3_platesNeeded_58 : decode cX3_platesNeeded 58 = .ok (.iload_n 2, 1) := dk_28 (dk_at dksX3_platesNeeded_2 13 rfl rfl)
theorem dX3_platesNeeded_59 : decode cX3_platesNeeded 59 = .ok (.isub, 1) := dk_100 (dk_at dksX3_platesNeeded_2 14 rfl rfl)
theorem dX3_platesNeeded_60 : decode cX3_platesNeeded 60 = .ok (.istore_n 3, 1) := dk_62 (dk_at dksX3_platesNeeded_2 15 rfl rfl)
theorem dX3_platesNeeded_61 : decode cX3_platesNeeded 61 = .ok (.aload_n 0, 1) := dk_42 (dk_at dksX3_platesNeeded_2 16 rfl rfl)
theorem dX3_platesNeeded_62 : decode cX3_platesNeeded 62 = .ok (.iload_n 2, 1) := dk_28 (dk_at dksX3_platesNeeded_2 17 rfl rfl)
theorem dX3_platesNeeded_63 : decode cX3_platesNeeded 63 = .ok (.putfield 91, 3) := dk_181 0 91 (dk_at dksX3_platesNeeded_2 18 rfl rfl)
theorem dX3_platesNeeded_66 : decode cX3_platesNeeded 66 = .ok (.iload_n 3, 1) := dk_29 (dk_at dksX3_platesNeeded_2 21 rfl rfl)
theorem dX3_platesNeeded_67 : decode cX3_platesNeeded 67 = .ok (.ireturn, 1) := dk_172 (dk_at dksX3_platesNeeded_2 22 rfl rfl)
abbrev cX3_bind : ByteArray := prog_15_method_40_code
def yX3_bind : MethodName := ⟨RX3, "bind", "(II)I"⟩
def dkwX3_bind_9 : List UInt8 := [172]
abbrev dktX3_bind_9 : List UInt8 := dkwX3_bind_9 ++ []
def dkwX3_bind_8 : List UInt8 := [46, 79, 132, 3, 1, 167, 255, 213, 42, 89, 180, 0, 156, 4, 96, 181, 0, 156, 42, 180, 0, 156, 4, 100]
abbrev dktX3_bind_8 : List UInt8 := dkwX3_bind_8 ++ dktX3_bind_9
def dkwX3_bind_7 : List UInt8 := [16, 16, 42, 180, 0, 156, 104, 29, 96, 42, 180, 0, 7, 42, 180, 0, 19, 16, 16, 27, 104, 29, 96, 46]
abbrev dktX3_bind_7 : List UInt8 := dkwX3_bind_7 ++ dktX3_bind_8
def dkwX3_bind_6 : List UInt8 := [42, 180, 0, 16, 27, 46, 79, 3, 62, 29, 42, 180, 0, 16, 27, 46, 162, 0, 39, 42, 180, 0, 50]
abbrev dktX3_bind_6 : List UInt8 := dkwX3_bind_6 ++ dktX3_bind_7
def dkwX3_bind_5 : List UInt8 := [42, 180, 0, 156, 27, 79, 42, 180, 0, 44, 42, 180, 0, 156, 28, 79, 42, 180, 0, 47, 42, 180, 0, 156]
abbrev dktX3_bind_5 : List UInt8 := dkwX3_bind_5 ++ dktX3_bind_6
def dkwX3_bind_4 : List UInt8 := [180, 0, 22, 16, 8, 27, 104, 29, 96, 92, 46, 28, 100, 79, 132, 3, 1, 167, 255, 229, 42, 180, 0, 41]
abbrev dktX3_bind_4 : List UInt8 := dkwX3_bind_4 ++ dktX3_bind_5
def dkwX3_bind_3 : List UInt8 := [7, 182, 0, 101, 172, 42, 3, 181, 0, 53, 3, 62, 29, 42, 27, 182, 0, 78, 162, 0, 24, 42]
abbrev dktX3_bind_3 : List UInt8 := dkwX3_bind_3 ++ dktX3_bind_4
def dkwX3_bind_2 : List UInt8 := [180, 0, 156, 16, 100, 160, 0, 9, 42, 6, 182, 0, 101, 172, 42, 27, 28, 182, 0, 159, 158, 0, 9, 42]
abbrev dktX3_bind_2 : List UInt8 := dkwX3_bind_2 ++ dktX3_bind_3
def dkwX3_bind_1 : List UInt8 := [17, 1, 244, 184, 0, 60, 154, 0, 9, 42, 5, 182, 0, 101, 172, 42, 27, 182, 0, 71, 153, 0, 12, 42]
abbrev dktX3_bind_1 : List UInt8 := dkwX3_bind_1 ++ dktX3_bind_2
def dkwX3_bind_0 : List UInt8 := [27, 3, 42, 180, 0, 68, 4, 100, 184, 0, 60, 154, 0, 9, 42, 4, 182, 0, 101, 172, 28, 4]
abbrev dktX3_bind_0 : List UInt8 := dkwX3_bind_0 ++ dktX3_bind_1
theorem dksX3_bind_0 : cX3_bind.data.toList.drop 0 = dktX3_bind_0 := by decide +kernel
theorem dksX3_bind_1 : cX3_bind.data.toList.drop 22 = dktX3_bind_1 := dk_seg dksX3_bind_0 22 rfl rfl
theorem dksX3_bind_2 : cX3_bind.data.toList.drop 46 = dktX3_bind_2 := dk_seg dksX3_bind_1 24 rfl rfl
theorem dksX3_bind_3 : cX3_bind.data.toList.drop 70 = dktX3_bind_3 := dk_seg dksX3_bind_2 24 rfl rfl
theorem dksX3_bind_4 : cX3_bind.data.toList.drop 92 = dktX3_bind_4 := dk_seg dksX3_bind_3 22 rfl rfl
theorem dksX3_bind_5 : cX3_bind.data.toList.drop 116 = dktX3_bind_5 := dk_seg dksX3_bind_4 24 rfl rfl
theorem dksX3_bind_6 : cX3_bind.data.toList.drop 140 = dktX3_bind_6 := dk_seg dksX3_bind_5 24 rfl rfl
theorem dksX3_bind_7 : cX3_bind.data.toList.drop 163 = dktX3_bind_7 := dk_seg dksX3_bind_6 23 rfl rfl
theorem dksX3_bind_8 : cX3_bind.data.toList.drop 187 = dktX3_bind_8 := dk_seg dksX3_bind_7 24 rfl rfl
theorem dksX3_bind_9 : cX3_bind.data.toList.drop 211 = dktX3_bind_9 := dk_seg dksX3_bind_8 24 rfl rfl
theorem dX3_bind_0 : decode cX3_bind 0 = .ok (.iload_n 1, 1) := dk_27 (dk_at dksX3_bind_0 0 rfl rfl)
theorem dX3_bind_1 : decode cX3_bind 1 = .ok (.iconst 0, 1) := dk_3 (dk_at dksX3_bind_0 1 rfl rfl)
theorem dX3_bind_2 : decode cX3_bind 2 = .ok (.aload_n 0, 1) := dk_42 (dk_at dksX3_bind_0 2 rfl rfl)
theorem dX3_bind_3 : decode cX3_bind 3 = .ok (.getfield 68, 3) := dk_180 0 68 (dk_at dksX3_bind_0 3 rfl rfl)
theorem dX3_bind_6 : decode cX3_bind 6 = .ok (.iconst 1, 1) := dk_4 (dk_at dksX3_bind_0 6 rfl rfl)
theorem dX3_bind_7 : decode cX3_bind 7 = .ok (.isub, 1) := dk_100 (dk_at dksX3_bind_0 7 rfl rfl)
theorem dX3_bind_8 : decode cX3_bind 8 = .ok (.invokestatic 60, 3) := dk_184 0 60 (dk_at dksX3_bind_0 8 rfl rfl)
theorem dX3_bind_11 : decode cX3_bind 11 = .ok (.ifCond .ne 9, 3) := dk_154 0 9 (dk_at dksX3_bind_0 11 rfl rfl)
theorem dX3_bind_14 : decode cX3_bind 14 = .ok (.aload_n 0, 1) := dk_42 (dk_at dksX3_bind_0 14 rfl rfl)
theorem dX3_bind_15 : decode cX3_bind 15 = .ok (.iconst 1, 1) := dk_4 (dk_at dksX3_bind_0 15 rfl rfl)
theorem dX3_bind_16 : decode cX3_bind 16 = .ok (.invokevirtual 101, 3) := dk_182 0 101 (dk_at dksX3_bind_0 16 rfl rfl)
theorem dX3_bind_19 : decode cX3_bind 19 = .ok (.ireturn, 1) := dk_172 (dk_at dksX3_bind_0 19 rfl rfl)
theorem dX3_bind_20 : decode cX3_bind 20 = .ok (.iload_n 2, 1) := dk_28 (dk_at dksX3_bind_0 20 rfl rfl)
theorem dX3_bind_21 : decode cX3_bind 21 = .ok (.iconst 1, 1) := dk_4 (dk_at dksX3_bind_0 21 rfl rfl)
theorem dX3_bind_22 : decode cX3_bind 22 = .ok (.sipush 500, 3) := dk_17 1 244 (dk_at dksX3_bind_1 0 rfl rfl)
theorem dX3_bind_25 : decode cX3_bind 25 = .ok (.invokestatic 60, 3) := dk_184 0 60 (dk_at dksX3_bind_1 3 rfl rfl)
theorem dX3_bind_28 : decode cX3_bind 28 = .ok (.ifCond .ne 9, 3) := dk_154 0 9 (dk_at dksX3_bind_1 6 rfl rfl)
theorem dX3_bind_31 : decode cX3_bind 31 = .ok (.aload_n 0, 1) := dk_42 (dk_at dksX3_bind_1 9 rfl rfl)
theorem dX3_bind_32 : decode cX3_bind 32 = .ok (.iconst 2, 1) := dk_5 (dk_at dksX3_bind_1 10 rfl rfl)
theorem dX3_bind_33 : decode cX3_bind 33 = .ok (.invokevirtual 101, 3) := dk_182 0 101 (dk_at dksX3_bind_1 11 rfl rfl)
theorem dX3_bind_36 : decode cX3_bind 36 = .ok (.ireturn, 1) := dk_172 (dk_at dksX3_bind_1 14 rfl rfl)
theorem dX3_bind_37 : decode cX3_bind 37 = .ok (.aload_n 0, 1) := dk_42 (dk_at dksX3_bind_1 15 rfl rfl)
theorem dX3_bind_38 : decode cX3_bind 38 = .ok (.iload_n 1, 1) := dk_27 (dk_at dksX3_bind_1 16 rfl rfl)
theorem dX3_bind_39 : decode cX3_bind 39 = .ok (.invokevirtual 71, 3) := dk_182 0 71 (dk_at dksX3_bind_1 17 rfl rfl)
theorem dX3_bind_42 : decode cX3_bind 42 = .ok (.ifCond .eq 12, 3) := dk_153 0 12 (dk_at dksX3_bind_1 20 rfl rfl)
theorem dX3_bind_45 : decode cX3_bind 45 = .ok (.aload_n 0, 1) := dk_42 (dk_at dksX3_bind_1 23 rfl rfl)
theorem dX3_bind_46 : decode cX3_bind 46 = .ok (.getfield 156, 3) := dk_180 0 156 (dk_at dksX3_bind_2 0 rfl rfl)
theorem dX3_bind_49 : decode cX3_bind 49 = .ok (.bipush 100, 2) := dk_16 100 (dk_at dksX3_bind_2 3 rfl rfl)
theorem dX3_bind_51 : decode cX3_bind 51 = .ok (.if_icmp .ne 9, 3) := dk_160 0 9 (dk_at dksX3_bind_2 5 rfl rfl)
theorem dX3_bind_54 : decode cX3_bind 54 = .ok (.aload_n 0, 1) := dk_42 (dk_at dksX3_bind_2 8 rfl rfl)
theorem dX3_bind_55 : decode cX3_bind 55 = .ok (.iconst 3, 1) := dk_6 (dk_at dksX3_bind_2 9 rfl rfl)
theorem dX3_bind_56 : decode cX3_bind 56 = .ok (.invokevirtual 101, 3) := dk_182 0 101 (dk_at dksX3_bind_2 10 rfl rfl)
theorem dX3_bind_59 : decode cX3_bind 59 = .ok (.ireturn, 1) := dk_172 (dk_at dksX3_bind_2 13 rfl rfl)
theorem dX3_bind_60 : decode cX3_bind 60 = .ok (.aload_n 0, 1) := dk_42 (dk_at dksX3_bind_2 14 rfl rfl)
theorem dX3_bind_61 : decode cX3_bind 61 = .ok (.iload_n 1, 1) := dk_27 (dk_at dksX3_bind_2 15 rfl rfl)
theorem dX3_bind_62 : decode cX3_bind 62 = .ok (.iload_n 2, 1) := dk_28 (dk_at dksX3_bind_2 16 rfl rfl)
theorem dX3_bind_63 : decode cX3_bind 63 = .ok (.invokevirtual 159, 3) := dk_182 0 159 (dk_at dksX3_bind_2 17 rfl rfl)
theorem dX3_bind_66 : decode cX3_bind 66 = .ok (.ifCond .le 9, 3) := dk_158 0 9 (dk_at dksX3_bind_2 20 rfl rfl)
theorem dX3_bind_69 : decode cX3_bind 69 = .ok (.aload_n 0, 1) := dk_42 (dk_at dksX3_bind_2 23 rfl rfl)
theorem dX3_bind_70 : decode cX3_bind 70 = .ok (.iconst 4, 1) := dk_7 (dk_at dksX3_bind_3 0 rfl rfl)
theorem dX3_bind_71 : decode cX3_bind 71 = .ok (.invokevirtual 101, 3) := dk_182 0 101 (dk_at dksX3_bind_3 1 rfl rfl)
theorem dX3_bind_74 : decode cX3_bind 74 = .ok (.ireturn, 1) := dk_172 (dk_at dksX3_bind_3 4 rfl rfl)
theorem dX3_bind_75 : decode cX3_bind 75 = .ok (.aload_n 0, 1) := dk_42 (dk_at dksX3_bind_3 5 rfl rfl)
theorem dX3_bind_76 : decode cX3_bind 76 = .ok (.iconst 0, 1) := dk_3 (dk_at dksX3_bind_3 6 rfl rfl)
theorem dX3_bind_77 : decode cX3_bind 77 = .ok (.putfield 53, 3) := dk_181 0 53 (dk_at dksX3_bind_3 7 rfl rfl)
theorem dX3_bind_80 : decode cX3_bind 80 = .ok (.iconst 0, 1) := dk_3 (dk_at dksX3_bind_3 10 rfl rfl)
theorem dX3_bind_81 : decode cX3_bind 81 = .ok (.istore_n 3, 1) := dk_62 (dk_at dksX3_bind_3 11 rfl rfl)
theorem dX3_bind_82 : decode cX3_bind 82 = .ok (.iload_n 3, 1) := dk_29 (dk_at dksX3_bind_3 12 rfl rfl)
theorem dX3_bind_83 : decode cX3_bind 83 = .ok (.aload_n 0, 1) := dk_42 (dk_at dksX3_bind_3 13 rfl rfl)
theorem dX3_bind_84 : decode cX3_bind 84 = .ok (.iload_n 1, 1) := dk_27 (dk_at dksX3_bind_3 14 rfl rfl)
theorem dX3_bind_85 : decode cX3_bind 85 = .ok (.invokevirtual 78, 3) := dk_182 0 78 (dk_at dksX3_bind_3 15 rfl rfl)
theorem dX3_bind_88 : decode cX3_bind 88 = .ok (.if_icmp .ge 24, 3) := dk_162 0 24 (dk_at dksX3_bind_3 18 rfl rfl)
theorem dX3_bind_91 : decode cX3_bind 91 = .ok (.aload_n 0, 1) := dk_42 (dk_at dksX3_bind_3 21 rfl rfl)
theorem dX3_bind_92 : decode cX3_bind 92 = .ok (.getfield 22, 3) := dk_180 0 22 (dk_at dksX3_bind_4 0 rfl rfl)
theorem dX3_bind_95 : decode cX3_bind 95 = .ok (.bipush 8, 2) := dk_16 8 (dk_at dksX3_bind_4 3 rfl rfl)
theorem dX3_bind_97 : decode cX3_bind 97 = .ok (.iload_n 1, 1) := dk_27 (dk_at dksX3_bind_4 5 rfl rfl)
theorem dX3_bind_98 : decode cX3_bind 98 = .ok (.imul, 1) := dk_104 (dk_at dksX3_bind_4 6 rfl rfl)
theorem dX3_bind_99 : decode cX3_bind 99 = .ok (.iload_n 3, 1) := dk_29 (dk_at dksX3_bind_4 7 rfl rfl)
theorem dX3_bind_100 : decode cX3_bind 100 = .ok (.iadd, 1) := dk_96 (dk_at dksX3_bind_4 8 rfl rfl)
theorem dX3_bind_101 : decode cX3_bind 101 = .ok (.dup2, 1) := dk_92 (dk_at dksX3_bind_4 9 rfl rfl)
theorem dX3_bind_102 : decode cX3_bind 102 = .ok (.iaload, 1) := dk_46 (dk_at dksX3_bind_4 10 rfl rfl)
theorem dX3_bind_103 : decode cX3_bind 103 = .ok (.iload_n 2, 1) := dk_28 (dk_at dksX3_bind_4 11 rfl rfl)
theorem dX3_bind_104 : decode cX3_bind 104 = .ok (.isub, 1) := dk_100 (dk_at dksX3_bind_4 12 rfl rfl)
theorem dX3_bind_105 : decode cX3_bind 105 = .ok (.iastore, 1) := dk_79 (dk_at dksX3_bind_4 13 rfl rfl)
theorem dX3_bind_106 : decode cX3_bind 106 = .ok (.iinc 3 1, 3) := dk_132 3 1 (dk_at dksX3_bind_4 14 rfl rfl)
theorem dX3_bind_109 : decode cX3_bind 109 = .ok (.goto (-27), 3) := dk_167 255 229 (dk_at dksX3_bind_4 17 rfl rfl)
theorem dX3_bind_112 : decode cX3_bind 112 = .ok (.aload_n 0, 1) := dk_42 (dk_at dksX3_bind_4 20 rfl rfl)
theorem dX3_bind_113 : decode cX3_bind 113 = .ok (.getfield 41, 3) := dk_180 0 41 (dk_at dksX3_bind_4 21 rfl rfl)
theorem dX3_bind_116 : decode cX3_bind 116 = .ok (.aload_n 0, 1) := dk_42 (dk_at dksX3_bind_5 0 rfl rfl)
theorem dX3_bind_117 : decode cX3_bind 117 = .ok (.getfield 156, 3) := dk_180 0 156 (dk_at dksX3_bind_5 1 rfl rfl)
theorem dX3_bind_120 : decode cX3_bind 120 = .ok (.iload_n 1, 1) := dk_27 (dk_at dksX3_bind_5 4 rfl rfl)
theorem dX3_bind_121 : decode cX3_bind 121 = .ok (.iastore, 1) := dk_79 (dk_at dksX3_bind_5 5 rfl rfl)
theorem dX3_bind_122 : decode cX3_bind 122 = .ok (.aload_n 0, 1) := dk_42 (dk_at dksX3_bind_5 6 rfl rfl)
theorem dX3_bind_123 : decode cX3_bind 123 = .ok (.getfield 44, 3) := dk_180 0 44 (dk_at dksX3_bind_5 7 rfl rfl)
theorem dX3_bind_126 : decode cX3_bind 126 = .ok (.aload_n 0, 1) := dk_42 (dk_at dksX3_bind_5 10 rfl rfl)
theorem dX3_bind_127 : decode cX3_bind 127 = .ok (.getfield 156, 3) := dk_180 0 156 (dk_at dksX3_bind_5 11 rfl rfl)
theorem dX3_bind_130 : decode cX3_bind 130 = .ok (.iload_n 2, 1) := dk_28 (dk_at dksX3_bind_5 14 rfl rfl)
theorem dX3_bind_131 : decode cX3_bind 131 = .ok (.iastore, 1) := dk_79 (dk_at dksX3_bind_5 15 rfl rfl)
theorem dX3_bind_132 : decode cX3_bind 132 = .ok (.aload_n 0, 1) := dk_42 (dk_at dksX3_bind_5 16 rfl rfl)
theorem dX3_bind_133 : decode cX3_bind 133 = .ok (.getfield 47, 3) := dk_180 0 47 (dk_at dksX3_bind_5 17 rfl rfl)
theorem dX3_bind_136 : decode cX3_bind 136 = .ok (.aload_n 0, 1) := dk_42 (dk_at dksX3_bind_5 20 rfl rfl)
theorem dX3_bind_137 : decode cX3_bind 137 = .ok (.getfield 156, 3) := dk_180 0 156 (dk_at dksX3_bind_5 21 rfl rfl)
theorem dX3_bind_140 : decode cX3_bind 140 = .ok (.aload_n 0, 1) := dk_42 (dk_at dksX3_bind_6 0 rfl rfl)
theorem dX3_bind_141 : decode cX3_bind 141 = .ok (.getfield 16, 3) := dk_180 0 16 (dk_at dksX3_bind_6 1 rfl rfl)
theorem dX3_bind_144 : decode cX3_bind 144 = .ok (.iload_n 1, 1) := dk_27 (dk_at dksX3_bind_6 4 rfl rfl)
theorem dX3_bind_145 : decode cX3_bind 145 = .ok (.iaload, 1) := dk_46 (dk_at dksX3_bind_6 5 rfl rfl)
theorem dX3_bind_146 : decode cX3_bind 146 = .ok (.iastore, 1) := dk_79 (dk_at dksX3_bind_6 6 rfl rfl)
theorem dX3_bind_147 : decode cX3_bind 147 = .ok (.iconst 0, 1) := dk_3 (dk_at dksX3_bind_6 7 rfl rfl)
theorem dX3_bind_148 : decode cX3_bind 148 = .ok (.istore_n 3, 1) := dk_62 (dk_at dksX3_bind_6 8 rfl rfl)
theorem dX3_bind_149 : decode cX3_bind 149 = .ok (.iload_n 3, 1) := dk_29 (dk_at dksX3_bind_6 9 rfl rfl)
theorem dX3_bind_150 : decode cX3_bind 150 = .ok (.aload_n 0, 1) := dk_42 (dk_at dksX3_bind_6 10 rfl rfl)
theorem dX3_bind_151 : decode cX3_bind 151 = .ok (.getfield 16, 3) := dk_180 0 16 (dk_at dksX3_bind_6 11 rfl rfl)
theorem dX3_bind_154 : decode cX3_bind 154 = .ok (.iload_n 1, 1) := dk_27 (dk_at dksX3_bind_6 14 rfl rfl)
theorem dX3_bind_155 : decode cX3_bind 155 = .ok (.iaload, 1) := dk_46 (dk_at dksX3_bind_6 15 rfl rfl)
theorem dX3_bind_156 : decode cX3_bind 156 = .ok (.if_icmp .ge 39, 3) := dk_162 0 39 (dk_at dksX3_bind_6 16 rfl rfl)
theorem dX3_bind_159 : decode cX3_bind 159 = .ok (.aload_n 0, 1) := dk_42 (dk_at dksX3_bind_6 19 rfl rfl)
theorem dX3_bind_160 : decode cX3_bind 160 = .ok (.getfield 50, 3) := dk_180 0 50 (dk_at dksX3_bind_6 20 rfl rfl)
theorem dX3_bind_163 : decode cX3_bind 163 = .ok (.bipush 16, 2) := dk_16 16 (dk_at dksX3_bind_7 0 rfl rfl)
theorem dX3_bind_165 : decode cX3_bind 165 = .ok (.aload_n 0, 1) := dk_42 (dk_at dksX3_bind_7 2 rfl rfl)
theorem dX3_bind_166 : decode cX3_bind 166 = .ok (.getfield 156, 3) := dk_180 0 156 (dk_at dksX3_bind_7 3 rfl rfl)
theorem dX3_bind_169 : decode cX3_bind 169 = .ok (.imul, 1) := dk_104 (dk_at dksX3_bind_7 6 rfl rfl)
theorem dX3_bind_170 : decode cX3_bind 170 = .ok (.iload_n 3, 1) := dk_29 (dk_at dksX3_bind_7 7 rfl rfl)
theorem dX3_bind_171 : decode cX3_bind 171 = .ok (.iadd, 1) := dk_96 (dk_at dksX3_bind_7 8 rfl rfl)
theorem dX3_bind_172 : decode cX3_bind 172 = .ok (.aload_n 0, 1) := dk_42 (dk_at dksX3_bind_7 9 rfl rfl)
theorem dX3_bind_173 : decode cX3_bind 173 = .ok (.getfield 7, 3) := dk_180 0 7 (dk_at dksX3_bind_7 10 rfl rfl)
theorem dX3_bind_176 : decode cX3_bind 176 = .ok (.aload_n 0, 1) := dk_42 (dk_at dksX3_bind_7 13 rfl rfl)
theorem dX3_bind_177 : decode cX3_bind 177 = .ok (.getfield 19, 3) := dk_180 0 19 (dk_at dksX3_bind_7 14 rfl rfl)
theorem dX3_bind_180 : decode cX3_bind 180 = .ok (.bipush 16, 2) := dk_16 16 (dk_at dksX3_bind_7 17 rfl rfl)
theorem dX3_bind_182 : decode cX3_bind 182 = .ok (.iload_n 1, 1) := dk_27 (dk_at dksX3_bind_7 19 rfl rfl)
theorem dX3_bind_183 : decode cX3_bind 183 = .ok (.imul, 1) := dk_104 (dk_at dksX3_bind_7 20 rfl rfl)
theorem dX3_bind_184 : decode cX3_bind 184 = .ok (.iload_n 3, 1) := dk_29 (dk_at dksX3_bind_7 21 rfl rfl)
theorem dX3_bind_185 : decode cX3_bind 185 = .ok (.iadd, 1) := dk_96 (dk_at dksX3_bind_7 22 rfl rfl)
theorem dX3_bind_186 : decode cX3_bind 186 = .ok (.iaload, 1) := dk_46 (dk_at dksX3_bind_7 23 rfl rfl)
theorem dX3_bind_187 : decode cX3_bind 187 = .ok (.iaload, 1) := dk_46 (dk_at dksX3_bind_8 0 rfl rfl)
theorem dX3_bind_188 : decode cX3_bind 188 = .ok (.iastore, 1) := dk_79 (dk_at dksX3_bind_8 1 rfl rfl)
theorem dX3_bind_189 : decode cX3_bind 189 = .ok (.iinc 3 1, 3) := dk_132 3 1 (dk_at dksX3_bind_8 2 rfl rfl)
theorem dX3_bind_192 : decode cX3_bind 192 = .ok (.goto (-43), 3) := dk_167 255 213 (dk_at dksX3_bind_8 5 rfl rfl)
theorem dX3_bind_195 : decode cX3_bind 195 = .ok (.aload_n 0, 1) := dk_42 (dk_at dksX3_bind_8 8 rfl rfl)
theorem dX3_bind_196 : decode cX3_bind 196 = .ok (.dup, 1) := dk_89 (dk_at dksX3_bind_8 9 rfl rfl)
theorem dX3_bind_197 : decode cX3_bind 197 = .ok (.getfield 156, 3) := dk_180 0 156 (dk_at dksX3_bind_8 10 rfl rfl)
theorem dX3_bind_200 : decode cX3_bind 200 = .ok (.iconst 1, 1) := dk_4 (dk_at dksX3_bind_8 13 rfl rfl)
theorem dX3_bind_201 : decode cX3_bind 201 = .ok (.iadd, 1) := dk_96 (dk_at dksX3_bind_8 14 rfl rfl)
theorem dX3_bind_202 : decode cX3_bind 202 = .ok (.putfield 156, 3) := dk_181 0 156 (dk_at dksX3_bind_8 15 rfl rfl)
theorem dX3_bind_205 : decode cX3_bind 205 = .ok (.aload_n 0, 1) := dk_42 (dk_at dksX3_bind_8 18 rfl rfl)
theorem dX3_bind_206 : decode cX3_bind 206 = .ok (.getfield 156, 3) := dk_180 0 156 (dk_at dksX3_bind_8 19 rfl rfl)
theorem dX3_bind_209 : decode cX3_bind 209 = .ok (.iconst 1, 1) := dk_4 (dk_at dksX3_bind_8 22 rfl rfl)
theorem dX3_bind_210 : decode cX3_bind 210 = .ok (.isub, 1) := dk_100 (dk_at dksX3_bind_8 23 rfl rfl)
theorem dX3_bind_211 : decode cX3_bind 211 = .ok (.ireturn, 1) := dk_172 (dk_at dksX3_bind_9 0 rfl rfl)
abbrev cX3_missing : ByteArray := prog_15_method_39_code
def yX3_missing : MethodName := ⟨RX3, "missing", "(II)I"⟩
def dkwX3_missing_2 : List UInt8 := [167, 0, 4, 3, 96, 62, 132, 4, 1, 167, 255, 206, 29, 172]
abbrev dktX3_missing_2 : List UInt8 := dkwX3_missing_2 ++ []
def dkwX3_missing_1 : List UInt8 := [104, 21, 4, 96, 46, 164, 0, 20, 28, 42, 180, 0, 22, 16, 8, 27, 104, 21, 4, 96, 46, 100]
abbrev dktX3_missing_1 : List UInt8 := dkwX3_missing_1 ++ dktX3_missing_2
def dkwX3_missing_0 : List UInt8 := [3, 62, 3, 54, 4, 21, 4, 42, 27, 182, 0, 78, 162, 0, 46, 29, 28, 42, 180, 0, 22, 16, 8, 27]
abbrev dktX3_missing_0 : List UInt8 := dkwX3_missing_0 ++ dktX3_missing_1
theorem dksX3_missing_0 : cX3_missing.data.toList.drop 0 = dktX3_missing_0 := by decide +kernel
theorem dksX3_missing_1 : cX3_missing.data.toList.drop 24 = dktX3_missing_1 := dk_seg dksX3_missing_0 24 rfl rfl
theorem dksX3_missing_2 : cX3_missing.data.toList.drop 46 = dktX3_missing_2 := dk_seg dksX3_missing_1 22 rfl rfl
theorem dX3_missing_0 : decode cX3_missing 0 = .ok (.iconst 0, 1) := dk_3 (dk_at dksX3_missing_0 0 rfl rfl)
theorem dX3_missing_1 : decode cX3_missing 1 = .ok (.istore_n 3, 1) := dk_62 (dk_at dksX3_missing_0 1 rfl rfl)
theorem dX3_missing_2 : decode cX3_missing 2 = .ok (.iconst 0, 1) := dk_3 (dk_at dksX3_missing_0 2 rfl rfl)
theorem dX3_missing_3 : decode cX3_missing 3 = .ok (.istore 4, 2) := dk_54 4 (dk_at dksX3_missing_0 3 rfl rfl)
theorem dX3_missing_5 : decode cX3_missing 5 = .ok (.iload 4, 2) := dk_21 4 (dk_at dksX3_missing_0 5 rfl rfl)
theorem dX3_missing_7 : decode cX3_missing 7 = .ok (.aload_n 0, 1) := dk_42 (dk_at dksX3_missing_0 7 rfl rfl)
theorem dX3_missing_8 : decode cX3_missing 8 = .ok (.iload_n 1, 1) := dk_27 (dk_at dksX3_missing_0 8 rfl rfl)
theorem dX3_missing_9 : decode cX3_missing 9 = .ok (.invokevirtual 78, 3) := dk_182 0 78 (dk_at dksX3_missing_0 9 rfl rfl)
theorem dX3_missing_12 : decode cX3_missing 12 = .ok (.if_icmp .ge 46, 3) := dk_162 0 46 (dk_at dksX3_missing_0 12 rfl rfl)
theorem dX3_missing_15 : decode cX3_missing 15 = .ok (.iload_n 3, 1) := dk_29 (dk_at dksX3_missing_0 15 rfl rfl)
theorem dX3_missing_16 : decode cX3_missing 16 = .ok (.iload_n 2, 1) := dk_28 (dk_at dksX3_missing_0 16 rfl rfl)
theorem dX3_missing_17 : decode cX3_missing 17 = .ok (.aload_n 0, 1) := dk_42 (dk_at dksX3_missing_0 17 rfl rfl)
theorem dX3_missing_18 : decode cX3_missing 18 = .ok (.getfield 22, 3) := dk_180 0 22 (dk_at dksX3_missing_0 18 rfl rfl)
theorem dX3_missing_21 : decode cX3_missing 21 = .ok (.bipush 8, 2) := dk_16 8 (dk_at dksX3_missing_0 21 rfl rfl)
theorem dX3_missing_23 : decode cX3_missing 23 = .ok (.iload_n 1, 1) := dk_27 (dk_at dksX3_missing_0 23 rfl rfl)
theorem dX3_missing_24 : decode cX3_missing 24 = .ok (.imul, 1) := dk_104 (dk_at dksX3_missing_1 0 rfl rfl)
theorem dX3_missing_25 : decode cX3_missing 25 = .ok (.iload 4, 2) := dk_21 4 (dk_at dksX3_missing_1 1 rfl rfl)
theorem dX3_missing_27 : decode cX3_missing 27 = .ok (.iadd, 1) := dk_96 (dk_at dksX3_missing_1 3 rfl rfl)
theorem dX3_missing_28 : decode cX3_missing 28 = .ok (.iaload, 1) := dk_46 (dk_at dksX3_missing_1 4 rfl rfl)
theorem dX3_missing_29 : decode cX3_missing 29 = .ok (.if_icmp .le 20, 3) := dk_164 0 20 (dk_at dksX3_missing_1 5 rfl rfl)
theorem dX3_missing_32 : decode cX3_missing 32 = .ok (.iload_n 2, 1) := dk_28 (dk_at dksX3_missing_1 8 rfl rfl)
theorem dX3_missing_33 : decode cX3_missing 33 = .ok (.aload_n 0, 1) := dk_42 (dk_at dksX3_missing_1 9 rfl rfl)
theorem dX3_missing_34 : decode cX3_missing 34 = .ok (.getfield 22, 3) := dk_180 0 22 (dk_at dksX3_missing_1 10 rfl rfl)
theorem dX3_missing_37 : decode cX3_missing 37 = .ok (.bipush 8, 2) := dk_16 8 (dk_at dksX3_missing_1 13 rfl rfl)
theorem dX3_missing_39 : decode cX3_missing 39 = .ok (.iload_n 1, 1) := dk_27 (dk_at dksX3_missing_1 15 rfl rfl)
theorem dX3_missing_40 : decode cX3_missing 40 = .ok (.imul, 1) := dk_104 (dk_at dksX3_missing_1 16 rfl rfl)
theorem dX3_missing_41 : decode cX3_missing 41 = .ok (.iload 4, 2) := dk_21 4 (dk_at dksX3_missing_1 17 rfl rfl)
theorem dX3_missing_43 : decode cX3_missing 43 = .ok (.iadd, 1) := dk_96 (dk_at dksX3_missing_1 19 rfl rfl)
theorem dX3_missing_44 : decode cX3_missing 44 = .ok (.iaload, 1) := dk_46 (dk_at dksX3_missing_1 20 rfl rfl)
theorem dX3_missing_45 : decode cX3_missing 45 = .ok (.isub, 1) := dk_100 (dk_at dksX3_missing_1 21 rfl rfl)
theorem dX3_missing_46 : decode cX3_missing 46 = .ok (.goto 4, 3) := dk_167 0 4 (dk_at dksX3_missing_2 0 rfl rfl)
theorem dX3_missing_49 : decode cX3_missing 49 = .ok (.iconst 0, 1) := dk_3 (dk_at dksX3_missing_2 3 rfl rfl)
theorem dX3_missing_50 : decode cX3_missing 50 = .ok (.iadd, 1) := dk_96 (dk_at dksX3_missing_2 4 rfl rfl)
theorem dX3_missing_51 : decode cX3_missing 51 = .ok (.istore_n 3, 1) := dk_62 (dk_at dksX3_missing_2 5 rfl rfl)
theorem dX3_missing_52 : decode cX3_missing 52 = .ok (.iinc 4 1, 3) := dk_132 4 1 (dk_at dksX3_missing_2 6 rfl rfl)
theorem dX3_missing_55 : decode cX3_missing 55 = .ok (.goto (-50), 3) := dk_167 255 206 (dk_at dksX3_missing_2 9 rfl rfl)
theorem dX3_missing_58 : decode cX3_missing 58 = .ok (.iload_n 3, 1) := dk_29 (dk_at dksX3_missing_2 12 rfl rfl)
theorem dX3_missing_59 : decode cX3_missing 59 = .ok (.ireturn, 1) := dk_172 (dk_at dksX3_missing_2 13 rfl rfl)
abbrev cX3_lacks : ByteArray := prog_15_method_41_code
def yX3_lacks : MethodName := ⟨RX3, "lacks", "(II)I"⟩
def dkwX3_lacks_2 : List UInt8 := [6, 182, 0, 101, 172, 42, 3, 181, 0, 53, 42, 27, 28, 182, 0, 159, 172]
abbrev dktX3_lacks_2 : List UInt8 := dkwX3_lacks_2 ++ []
def dkwX3_lacks_1 : List UInt8 := [17, 1, 244, 184, 0, 60, 154, 0, 9, 42, 5, 182, 0, 101, 172, 42, 27, 182, 0, 71, 154, 0, 9, 42]
abbrev dktX3_lacks_1 : List UInt8 := dkwX3_lacks_1 ++ dktX3_lacks_2
def dkwX3_lacks_0 : List UInt8 := [27, 3, 42, 180, 0, 68, 4, 100, 184, 0, 60, 154, 0, 9, 42, 4, 182, 0, 101, 172, 28, 4]
abbrev dktX3_lacks_0 : List UInt8 := dkwX3_lacks_0 ++ dktX3_lacks_1
theorem dksX3_lacks_0 : cX3_lacks.data.toList.drop 0 = dktX3_lacks_0 := by decide +kernel
theorem dksX3_lacks_1 : cX3_lacks.data.toList.drop 22 = dktX3_lacks_1 := dk_seg dksX3_lacks_0 22 rfl rfl
theorem dksX3_lacks_2 : cX3_lacks.data.toList.drop 46 = dktX3_lacks_2 := dk_seg dksX3_lacks_1 24 rfl rfl
theorem dX3_lacks_0 : decode cX3_lacks 0 = .ok (.iload_n 1, 1) := dk_27 (dk_at dksX3_lacks_0 0 rfl rfl)
theorem dX3_lacks_1 : decode cX3_lacks 1 = .ok (.iconst 0, 1) := dk_3 (dk_at dksX3_lacks_0 1 rfl rfl)
theorem dX3_lacks_2 : decode cX3_lacks 2 = .ok (.aload_n 0, 1) := dk_42 (dk_at dksX3_lacks_0 2 rfl rfl)
theorem dX3_lacks_3 : decode cX3_lacks 3 = .ok (.getfield 68, 3) := dk_180 0 68 (dk_at dksX3_lacks_0 3 rfl rfl)
theorem dX3_lacks_6 : decode cX3_lacks 6 = .ok (.iconst 1, 1) := dk_4 (dk_at dksX3_lacks_0 6 rfl rfl)
theorem dX3_lacks_7 : decode cX3_lacks 7 = .ok (.isub, 1) := dk_100 (dk_at dksX3_lacks_0 7 rfl rfl)
theorem dX3_lacks_8 : decode cX3_lacks 8 = .ok (.invokestatic 60, 3) := dk_184 0 60 (dk_at dksX3_lacks_0 8 rfl rfl)
theorem dX3_lacks_11 : decode cX3_lacks 11 = .ok (.ifCond .ne 9, 3) := dk_154 0 9 (dk_at dksX3_lacks_0 11 rfl rfl)
theorem dX3_lacks_14 : decode cX3_lacks 14 = .ok (.aload_n 0, 1) := dk_42 (dk_at dksX3_lacks_0 14 rfl rfl)
theorem dX3_lacks_15 : decode cX3_lacks 15 = .ok (.iconst 1, 1) := dk_4 (dk_at dksX3_lacks_0 15 rfl rfl)
theorem dX3_lacks_16 : decode cX3_lacks 16 = .ok (.invokevirtual 101, 3) := dk_182 0 101 (dk_at dksX3_lacks_0 16 rfl rfl)
theorem dX3_lacks_19 : decode cX3_lacks 19 = .ok (.ireturn, 1) := dk_172 (dk_at dksX3_lacks_0 19 rfl rfl)
theorem dX3_lacks_20 : decode cX3_lacks 20 = .ok (.iload_n 2, 1) := dk_28 (dk_at dksX3_lacks_0 20 rfl rfl)
theorem dX3_lacks_21 : decode cX3_lacks 21 = .ok (.iconst 1, 1) := dk_4 (dk_at dksX3_lacks_0 21 rfl rfl)
theorem dX3_lacks_22 : decode cX3_lacks 22 = .ok (.sipush 500, 3) := dk_17 1 244 (dk_at dksX3_lacks_1 0 rfl rfl)
theorem dX3_lacks_25 : decode cX3_lacks 25 = .ok (.invokestatic 60, 3) := dk_184 0 60 (dk_at dksX3_lacks_1 3 rfl rfl)
theorem dX3_lacks_28 : decode cX3_lacks 28 = .ok (.ifCond .ne 9, 3) := dk_154 0 9 (dk_at dksX3_lacks_1 6 rfl rfl)
theorem dX3_lacks_31 : decode cX3_lacks 31 = .ok (.aload_n 0, 1) := dk_42 (dk_at dksX3_lacks_1 9 rfl rfl)
theorem dX3_lacks_32 : decode cX3_lacks 32 = .ok (.iconst 2, 1) := dk_5 (dk_at dksX3_lacks_1 10 rfl rfl)
theorem dX3_lacks_33 : decode cX3_lacks 33 = .ok (.invokevirtual 101, 3) := dk_182 0 101 (dk_at dksX3_lacks_1 11 rfl rfl)
theorem dX3_lacks_36 : decode cX3_lacks 36 = .ok (.ireturn, 1) := dk_172 (dk_at dksX3_lacks_1 14 rfl rfl)
theorem dX3_lacks_37 : decode cX3_lacks 37 = .ok (.aload_n 0, 1) := dk_42 (dk_at dksX3_lacks_1 15 rfl rfl)
theorem dX3_lacks_38 : decode cX3_lacks 38 = .ok (.iload_n 1, 1) := dk_27 (dk_at dksX3_lacks_1 16 rfl rfl)
theorem dX3_lacks_39 : decode cX3_lacks 39 = .ok (.invokevirtual 71, 3) := dk_182 0 71 (dk_at dksX3_lacks_1 17 rfl rfl)
theorem dX3_lacks_42 : decode cX3_lacks 42 = .ok (.ifCond .ne 9, 3) := dk_154 0 9 (dk_at dksX3_lacks_1 20 rfl rfl)
theorem dX3_lacks_45 : decode cX3_lacks 45 = .ok (.aload_n 0, 1) := dk_42 (dk_at dksX3_lacks_1 23 rfl rfl)
theorem dX3_lacks_46 : decode cX3_lacks 46 = .ok (.iconst 3, 1) := dk_6 (dk_at dksX3_lacks_2 0 rfl rfl)
theorem dX3_lacks_47 : decode cX3_lacks 47 = .ok (.invokevirtual 101, 3) := dk_182 0 101 (dk_at dksX3_lacks_2 1 rfl rfl)
theorem dX3_lacks_50 : decode cX3_lacks 50 = .ok (.ireturn, 1) := dk_172 (dk_at dksX3_lacks_2 4 rfl rfl)
theorem dX3_lacks_51 : decode cX3_lacks 51 = .ok (.aload_n 0, 1) := dk_42 (dk_at dksX3_lacks_2 5 rfl rfl)
theorem dX3_lacks_52 : decode cX3_lacks 52 = .ok (.iconst 0, 1) := dk_3 (dk_at dksX3_lacks_2 6 rfl rfl)
theorem dX3_lacks_53 : decode cX3_lacks 53 = .ok (.putfield 53, 3) := dk_181 0 53 (dk_at dksX3_lacks_2 7 rfl rfl)
theorem dX3_lacks_56 : decode cX3_lacks 56 = .ok (.aload_n 0, 1) := dk_42 (dk_at dksX3_lacks_2 10 rfl rfl)
theorem dX3_lacks_57 : decode cX3_lacks 57 = .ok (.iload_n 1, 1) := dk_27 (dk_at dksX3_lacks_2 11 rfl rfl)
theorem dX3_lacks_58 : decode cX3_lacks 58 = .ok (.iload_n 2, 1) := dk_28 (dk_at dksX3_lacks_2 12 rfl rfl)
theorem dX3_lacks_59 : decode cX3_lacks 59 = .ok (.invokevirtual 159, 3) := dk_182 0 159 (dk_at dksX3_lacks_2 13 rfl rfl)
theorem dX3_lacks_62 : decode cX3_lacks 62 = .ok (.ireturn, 1) := dk_172 (dk_at dksX3_lacks_2 16 rfl rfl)
abbrev cX3_lots : ByteArray := prog_15_method_42_code
def yX3_lots : MethodName := ⟨RX3, "lots", "()I"⟩
def dkwX3_lots_0 : List UInt8 := [42, 3, 181, 0, 53, 42, 180, 0, 156, 172]
abbrev dktX3_lots_0 : List UInt8 := dkwX3_lots_0 ++ []
theorem dksX3_lots_0 : cX3_lots.data.toList.drop 0 = dktX3_lots_0 := by decide +kernel
theorem dX3_lots_0 : decode cX3_lots 0 = .ok (.aload_n 0, 1) := dk_42 (dk_at dksX3_lots_0 0 rfl rfl)
theorem dX3_lots_1 : decode cX3_lots 1 = .ok (.iconst 0, 1) := dk_3 (dk_at dksX3_lots_0 1 rfl rfl)
theorem dX3_lots_2 : decode cX3_lots 2 = .ok (.putfield 53, 3) := dk_181 0 53 (dk_at dksX3_lots_0 2 rfl rfl)
theorem dX3_lots_5 : decode cX3_lots 5 = .ok (.aload_n 0, 1) := dk_42 (dk_at dksX3_lots_0 5 rfl rfl)
theorem dX3_lots_6 : decode cX3_lots 6 = .ok (.getfield 156, 3) := dk_180 0 156 (dk_at dksX3_lots_0 6 rfl rfl)
theorem dX3_lots_9 : decode cX3_lots 9 = .ok (.ireturn, 1) := dk_172 (dk_at dksX3_lots_0 9 rfl rfl)
abbrev cX3_copies : ByteArray := prog_15_method_43_code
def yX3_copies : MethodName := ⟨RX3, "copies", "(I)I"⟩
def dkwX3_copies_1 : List UInt8 := [181, 0, 53, 42, 180, 0, 44, 27, 46, 172]
abbrev dktX3_copies_1 : List UInt8 := dkwX3_copies_1 ++ []
def dkwX3_copies_0 : List UInt8 := [27, 3, 42, 180, 0, 156, 4, 100, 184, 0, 60, 154, 0, 9, 42, 4, 182, 0, 101, 172, 42, 3]
abbrev dktX3_copies_0 : List UInt8 := dkwX3_copies_0 ++ dktX3_copies_1
theorem dksX3_copies_0 : cX3_copies.data.toList.drop 0 = dktX3_copies_0 := by decide +kernel
theorem dksX3_copies_1 : cX3_copies.data.toList.drop 22 = dktX3_copies_1 := dk_seg dksX3_copies_0 22 rfl rfl
theorem dX3_copies_0 : decode cX3_copies 0 = .ok (.iload_n 1, 1) := dk_27 (dk_at dksX3_copies_0 0 rfl rfl)
theorem dX3_copies_1 : decode cX3_copies 1 = .ok (.iconst 0, 1) := dk_3 (dk_at dksX3_copies_0 1 rfl rfl)
theorem dX3_copies_2 : decode cX3_copies 2 = .ok (.aload_n 0, 1) := dk_42 (dk_at dksX3_copies_0 2 rfl rfl)
theorem dX3_copies_3 : decode cX3_copies 3 = .ok (.getfield 156, 3) := dk_180 0 156 (dk_at dksX3_copies_0 3 rfl rfl)
theorem dX3_copies_6 : decode cX3_copies 6 = .ok (.iconst 1, 1) := dk_4 (dk_at dksX3_copies_0 6 rfl rfl)
theorem dX3_copies_7 : decode cX3_copies 7 = .ok (.isub, 1) := dk_100 (dk_at dksX3_copies_0 7 rfl rfl)
theorem dX3_copies_8 : decode cX3_copies 8 = .ok (.invokestatic 60, 3) := dk_184 0 60 (dk_at dksX3_copies_0 8 rfl rfl)
theorem dX3_copies_11 : decode cX3_copies 11 = .ok (.ifCond .ne 9, 3) := dk_154 0 9 (dk_at dksX3_copies_0 11 rfl rfl)
theorem dX3_copies_14 : decode cX3_copies 14 = .ok (.aload_n 0, 1) := dk_42 (dk_at dksX3_copies_0 14 rfl rfl)
theorem dX3_copies_15 : decode cX3_copies 15 = .ok (.iconst 1, 1) := dk_4 (dk_at dksX3_copies_0 15 rfl rfl)
theorem dX3_copies_16 : decode cX3_copies 16 = .ok (.invokevirtual 101, 3) := dk_182 0 101 (dk_at dksX3_copies_0 16 rfl rfl)
theorem dX3_copies_19 : decode cX3_copies 19 = .ok (.ireturn, 1) := dk_172 (dk_at dksX3_copies_0 19 rfl rfl)
theorem dX3_copies_20 : decode cX3_copies 20 = .ok (.aload_n 0, 1) := dk_42 (dk_at dksX3_copies_0 20 rfl rfl)
theorem dX3_copies_21 : decode cX3_copies 21 = .ok (.iconst 0, 1) := dk_3 (dk_at dksX3_copies_0 21 rfl rfl)
theorem dX3_copies_22 : decode cX3_copies 22 = .ok (.putfield 53, 3) := dk_181 0 53 (dk_at dksX3_copies_1 0 rfl rfl)
theorem dX3_copies_25 : decode cX3_copies 25 = .ok (.aload_n 0, 1) := dk_42 (dk_at dksX3_copies_1 3 rfl rfl)
theorem dX3_copies_26 : decode cX3_copies 26 = .ok (.getfield 44, 3) := dk_180 0 44 (dk_at dksX3_copies_1 4 rfl rfl)
theorem dX3_copies_29 : decode cX3_copies 29 = .ok (.iload_n 1, 1) := dk_27 (dk_at dksX3_copies_1 7 rfl rfl)
theorem dX3_copies_30 : decode cX3_copies 30 = .ok (.iaload, 1) := dk_46 (dk_at dksX3_copies_1 8 rfl rfl)
theorem dX3_copies_31 : decode cX3_copies 31 = .ok (.ireturn, 1) := dk_172 (dk_at dksX3_copies_1 9 rfl rfl)
abbrev cX3_stateIn : ByteArray := prog_15_method_44_code
def yX3_stateIn : MethodName := ⟨RX3, "stateIn", "(II)I"⟩
def dkwX3_stateIn_2 : List UInt8 := [180, 0, 50, 16, 16, 27, 104, 28, 96, 4, 100, 46, 172]
abbrev dktX3_stateIn_2 : List UInt8 := dkwX3_stateIn_2 ++ []
def dkwX3_stateIn_1 : List UInt8 := [180, 0, 47, 27, 46, 184, 0, 60, 154, 0, 9, 42, 5, 182, 0, 101, 172, 42, 3, 181, 0, 53, 42]
abbrev dktX3_stateIn_1 : List UInt8 := dkwX3_stateIn_1 ++ dktX3_stateIn_2
def dkwX3_stateIn_0 : List UInt8 := [27, 3, 42, 180, 0, 156, 4, 100, 184, 0, 60, 154, 0, 9, 42, 4, 182, 0, 101, 172, 28, 4, 42]
abbrev dktX3_stateIn_0 : List UInt8 := dkwX3_stateIn_0 ++ dktX3_stateIn_1
theorem dksX3_stateIn_0 : cX3_stateIn.data.toList.drop 0 = dktX3_stateIn_0 := by decide +kernel
theorem dksX3_stateIn_1 : cX3_stateIn.data.toList.drop 23 = dktX3_stateIn_1 := dk_seg dksX3_stateIn_0 23 rfl rfl
theorem dksX3_stateIn_2 : cX3_stateIn.data.toList.drop 46 = dktX3_stateIn_2 := dk_seg dksX3_stateIn_1 23 rfl rfl
theorem dX3_stateIn_0 : decode cX3_stateIn 0 = .ok (.iload_n 1, 1) := dk_27 (dk_at dksX3_stateIn_0 0 rfl rfl)
theorem dX3_stateIn_1 : decode cX3_stateIn 1 = .ok (.iconst 0, 1) := dk_3 (dk_at dksX3_stateIn_0 1 rfl rfl)
theorem dX3_stateIn_2 : decode cX3_stateIn 2 = .ok (.aload_n 0, 1) := dk_42 (dk_at dksX3_stateIn_0 2 rfl rfl)
theorem dX3_stateIn_3 : decode cX3_stateIn 3 = .ok (.getfield 156, 3) := dk_180 0 156 (dk_at dksX3_stateIn_0 3 rfl rfl)
theorem dX3_stateIn_6 : decode cX3_stateIn 6 = .ok (.iconst 1, 1) := dk_4 (dk_at dksX3_stateIn_0 6 rfl rfl)
theorem dX3_stateIn_7 : decode cX3_stateIn 7 = .ok (.isub, 1) := dk_100 (dk_at dksX3_stateIn_0 7 rfl rfl)
theorem dX3_stateIn_8 : decode cX3_stateIn 8 = .ok (.invokestatic 60, 3) := dk_184 0 60 (dk_at dksX3_stateIn_0 8 rfl rfl)
theorem dX3_stateIn_11 : decode cX3_stateIn 11 = .ok (.ifCond .ne 9, 3) := dk_154 0 9 (dk_at dksX3_stateIn_0 11 rfl rfl)
theorem dX3_stateIn_14 : decode cX3_stateIn 14 = .ok (.aload_n 0, 1) := dk_42 (dk_at dksX3_stateIn_0 14 rfl rfl)
theorem dX3_stateIn_15 : decode cX3_stateIn 15 = .ok (.iconst 1, 1) := dk_4 (dk_at dksX3_stateIn_0 15 rfl rfl)
theorem dX3_stateIn_16 : decode cX3_stateIn 16 = .ok (.invokevirtual 101, 3) := dk_182 0 101 (dk_at dksX3_stateIn_0 16 rfl rfl)
theorem dX3_stateIn_19 : decode cX3_stateIn 19 = .ok (.ireturn, 1) := dk_172 (dk_at dksX3_stateIn_0 19 rfl rfl)
theorem dX3_stateIn_20 : decode cX3_stateIn 20 = .ok (.iload_n 2, 1) := dk_28 (dk_at dksX3_stateIn_0 20 rfl rfl)
theorem dX3_stateIn_21 : decode cX3_stateIn 21 = .ok (.iconst 1, 1) := dk_4 (dk_at dksX3_stateIn_0 21 rfl rfl)
theorem dX3_stateIn_22 : decode cX3_stateIn 22 = .ok (.aload_n 0, 1) := dk_42 (dk_at dksX3_stateIn_0 22 rfl rfl)
theorem dX3_stateIn_23 : decode cX3_stateIn 23 = .ok (.getfield 47, 3) := dk_180 0 47 (dk_at dksX3_stateIn_1 0 rfl rfl)
theorem dX3_stateIn_26 : decode cX3_stateIn 26 = .ok (.iload_n 1, 1) := dk_27 (dk_at dksX3_stateIn_1 3 rfl rfl)
theorem dX3_stateIn_27 : decode cX3_stateIn 27 = .ok (.iaload, 1) := dk_46 (dk_at dksX3_stateIn_1 4 rfl rfl)
theorem dX3_stateIn_28 : decode cX3_stateIn 28 = .ok (.invokestatic 60, 3) := dk_184 0 60 (dk_at dksX3_stateIn_1 5 rfl rfl)
theorem dX3_stateIn_31 : decode cX3_stateIn 31 = .ok (.ifCond .ne 9, 3) := dk_154 0 9 (dk_at dksX3_stateIn_1 8 rfl rfl)
theorem dX3_stateIn_34 : decode cX3_stateIn 34 = .ok (.aload_n 0, 1) := dk_42 (dk_at dksX3_stateIn_1 11 rfl rfl)
theorem dX3_stateIn_35 : decode cX3_stateIn 35 = .ok (.iconst 2, 1) := dk_5 (dk_at dksX3_stateIn_1 12 rfl rfl)
theorem dX3_stateIn_36 : decode cX3_stateIn 36 = .ok (.invokevirtual 101, 3) := dk_182 0 101 (dk_at dksX3_stateIn_1 13 rfl rfl)
theorem dX3_stateIn_39 : decode cX3_stateIn 39 = .ok (.ireturn, 1) := dk_172 (dk_at dksX3_stateIn_1 16 rfl rfl)
theorem dX3_stateIn_40 : decode cX3_stateIn 40 = .ok (.aload_n 0, 1) := dk_42 (dk_at dksX3_stateIn_1 17 rfl rfl)
theorem dX3_stateIn_41 : decode cX3_stateIn 41 = .ok (.iconst 0, 1) := dk_3 (dk_at dksX3_stateIn_1 18 rfl rfl)
theorem dX3_stateIn_42 : decode cX3_stateIn 42 = .ok (.putfield 53, 3) := dk_181 0 53 (dk_at dksX3_stateIn_1 19 rfl rfl)
theorem dX3_stateIn_45 : decode cX3_stateIn 45 = .ok (.aload_n 0, 1) := dk_42 (dk_at dksX3_stateIn_1 22 rfl rfl)
theorem dX3_stateIn_46 : decode cX3_stateIn 46 = .ok (.getfield 50, 3) := dk_180 0 50 (dk_at dksX3_stateIn_2 0 rfl rfl)
theorem dX3_stateIn_49 : decode cX3_stateIn 49 = .ok (.bipush 16, 2) := dk_16 16 (dk_at dksX3_stateIn_2 3 rfl rfl)
theorem dX3_stateIn_51 : decode cX3_stateIn 51 = .ok (.iload_n 1, 1) := dk_27 (dk_at dksX3_stateIn_2 5 rfl rfl)
theorem dX3_stateIn_52 : decode cX3_stateIn 52 = .ok (.imul, 1) := dk_104 (dk_at dksX3_stateIn_2 6 rfl rfl)
theorem dX3_stateIn_53 : decode cX3_stateIn 53 = .ok (.iload_n 2, 1) := dk_28 (dk_at dksX3_stateIn_2 7 rfl rfl)
theorem dX3_stateIn_54 : decode cX3_stateIn 54 = .ok (.iadd, 1) := dk_96 (dk_at dksX3_stateIn_2 8 rfl rfl)
theorem dX3_stateIn_55 : decode cX3_stateIn 55 = .ok (.iconst 1, 1) := dk_4 (dk_at dksX3_stateIn_2 9 rfl rfl)
theorem dX3_stateIn_56 : decode cX3_stateIn 56 = .ok (.isub, 1) := dk_100 (dk_at dksX3_stateIn_2 10 rfl rfl)
theorem dX3_stateIn_57 : decode cX3_stateIn 57 = .ok (.iaload, 1) := dk_46 (dk_at dksX3_stateIn_2 11 rfl rfl)
theorem dX3_stateIn_58 : decode cX3_stateIn 58 = .ok (.ireturn, 1) := dk_172 (dk_at dksX3_stateIn_2 12 rfl rfl)
abbrev cX3_stateByReplay : ByteArray := prog_15_method_45_code
def yX3_stateByReplay : MethodName := ⟨RX3, "stateByReplay", "(II)I"⟩
def dkwX3_stateByReplay_0 : List UInt8 := [42, 27, 28, 182, 0, 162, 172]
abbrev dktX3_stateByReplay_0 : List UInt8 := dkwX3_stateByReplay_0 ++ []
theorem dksX3_stateByReplay_0 : cX3_stateByReplay.data.toList.drop 0 = dktX3_stateByReplay_0 := by decide +kernel
theorem dX3_stateByReplay_0 : decode cX3_stateByReplay 0 = .ok (.aload_n 0, 1) := dk_42 (dk_at dksX3_stateByReplay_0 0 rfl rfl)
theorem dX3_stateByReplay_1 : decode cX3_stateByReplay 1 = .ok (.iload_n 1, 1) := dk_27 (dk_at dksX3_stateByReplay_0 1 rfl rfl)
theorem dX3_stateByReplay_2 : decode cX3_stateByReplay 2 = .ok (.iload_n 2, 1) := dk_28 (dk_at dksX3_stateByReplay_0 2 rfl rfl)
theorem dX3_stateByReplay_3 : decode cX3_stateByReplay 3 = .ok (.invokevirtual 162, 3) := dk_182 0 162 (dk_at dksX3_stateByReplay_0 3 rfl rfl)
theorem dX3_stateByReplay_6 : decode cX3_stateByReplay 6 = .ok (.ireturn, 1) := dk_172 (dk_at dksX3_stateByReplay_0 6 rfl rfl)
abbrev cX3_outdated : ByteArray := prog_15_method_46_code
def yX3_outdated : MethodName := ⟨RX3, "outdated", "(I)I"⟩
def dkwX3_outdated_5 : List UInt8 := [132, 3, 1, 167, 255, 150, 28, 172]
abbrev dktX3_outdated_5 : List UInt8 := dkwX3_outdated_5 ++ []
def dkwX3_outdated_4 : List UInt8 := [132, 5, 1, 167, 255, 188, 28, 21, 4, 153, 0, 12, 42, 180, 0, 44, 29, 46, 167, 0, 4, 3, 96, 61]
abbrev dktX3_outdated_4 : List UInt8 := dkwX3_outdated_4 ++ dktX3_outdated_5
def dkwX3_outdated_3 : List UInt8 := [16, 16, 29, 104, 21, 5, 96, 46, 42, 180, 0, 7, 27, 46, 159, 0, 7, 4, 167, 0, 4, 3, 54, 4]
abbrev dktX3_outdated_3 : List UInt8 := dkwX3_outdated_3 ++ dktX3_outdated_4
def dkwX3_outdated_2 : List UInt8 := [180, 0, 19, 16, 16, 42, 180, 0, 41, 29, 46, 104, 21, 5, 96, 46, 27, 160, 0, 28, 42, 180, 0, 50]
abbrev dktX3_outdated_2 : List UInt8 := dkwX3_outdated_2 ++ dktX3_outdated_3
def dkwX3_outdated_1 : List UInt8 := [54, 4, 3, 54, 5, 21, 5, 42, 180, 0, 47, 29, 46, 162, 0, 63, 21, 4, 154, 0, 45, 42]
abbrev dktX3_outdated_1 : List UInt8 := dkwX3_outdated_1 ++ dktX3_outdated_2
def dkwX3_outdated_0 : List UInt8 := [42, 27, 182, 0, 104, 154, 0, 5, 3, 172, 3, 61, 3, 62, 29, 42, 180, 0, 156, 162, 0, 104, 3]
abbrev dktX3_outdated_0 : List UInt8 := dkwX3_outdated_0 ++ dktX3_outdated_1
theorem dksX3_outdated_0 : cX3_outdated.data.toList.drop 0 = dktX3_outdated_0 := by decide +kernel
theorem dksX3_outdated_1 : cX3_outdated.data.toList.drop 23 = dktX3_outdated_1 := dk_seg dksX3_outdated_0 23 rfl rfl
theorem dksX3_outdated_2 : cX3_outdated.data.toList.drop 45 = dktX3_outdated_2 := dk_seg dksX3_outdated_1 22 rfl rfl
theorem dksX3_outdated_3 : cX3_outdated.data.toList.drop 69 = dktX3_outdated_3 := dk_seg dksX3_outdated_2 24 rfl rfl
theorem dksX3_outdated_4 : cX3_outdated.data.toList.drop 93 = dktX3_outdated_4 := dk_seg dksX3_outdated_3 24 rfl rfl
theorem dksX3_outdated_5 : cX3_outdated.data.toList.drop 117 = dktX3_outdated_5 := dk_seg dksX3_outdated_4 24 rfl rfl
theorem dX3_outdated_0 : decode cX3_outdated 0 = .ok (.aload_n 0, 1) := dk_42 (dk_at dksX3_outdated_0 0 rfl rfl)
theorem dX3_outdated_1 : decode cX3_outdated 1 = .ok (.iload_n 1, 1) := dk_27 (dk_at dksX3_outdated_0 1 rfl rfl)
theorem dX3_outdated_2 : decode cX3_outdated 2 = .ok (.invokevirtual 104, 3) := dk_182 0 104 (dk_at dksX3_outdated_0 2 rfl rfl)
theorem dX3_outdated_5 : decode cX3_outdated 5 = .ok (.ifCond .ne 5, 3) := dk_154 0 5 (dk_at dksX3_outdated_0 5 rfl rfl)
theorem dX3_outdated_8 : decode cX3_outdated 8 = .ok (.iconst 0, 1) := dk_3 (dk_at dksX3_outdated_0 8 rfl rfl)
theorem dX3_outdated_9 : decode cX3_outdated 9 = .ok (.ireturn, 1) := dk_172 (dk_at dksX3_outdated_0 9 rfl rfl)
theorem dX3_outdated_10 : decode cX3_outdated 10 = .ok (.iconst 0, 1) := dk_3 (dk_at dksX3_outdated_0 10 rfl rfl)
theorem dX3_outdated_11 : decode cX3_outdated 11 = .ok (.istore_n 2, 1) := dk_61 (dk_at dksX3_outdated_0 11 rfl rfl)
theorem dX3_outdated_12 : decode cX3_outdated 12 = .ok (.iconst 0, 1) := dk_3 (dk_at dksX3_outdated_0 12 rfl rfl)
theorem dX3_outdated_13 : decode cX3_outdated 13 = .ok (.istore_n 3, 1) := dk_62 (dk_at dksX3_outdated_0 13 rfl rfl)
theorem dX3_outdated_14 : decode cX3_outdated 14 = .ok (.iload_n 3, 1) := dk_29 (dk_at dksX3_outdated_0 14 rfl rfl)
theorem dX3_outdated_15 : decode cX3_outdated 15 = .ok (.aload_n 0, 1) := dk_42 (dk_at dksX3_outdated_0 15 rfl rfl)
theorem dX3_outdated_16 : decode cX3_outdated 16 = .ok (.getfield 156, 3) := dk_180 0 156 (dk_at dksX3_outdated_0 16 rfl rfl)
theorem dX3_outdated_19 : decode cX3_outdated 19 = .ok (.if_icmp .ge 104, 3) := dk_162 0 104 (dk_at dksX3_outdated_0 19 rfl rfl)
theorem dX3_outdated_22 : decode cX3_outdated 22 = .ok (.iconst 0, 1) := dk_3 (dk_at dksX3_outdated_0 22 rfl rfl)
theorem dX3_outdated_23 : decode cX3_outdated 23 = .ok (.istore 4, 2) := dk_54 4 (dk_at dksX3_outdated_1 0 rfl rfl)
theorem dX3_outdated_25 : decode cX3_outdated 25 = .ok (.iconst 0, 1) := dk_3 (dk_at dksX3_outdated_1 2 rfl rfl)
theorem dX3_outdated_26 : decode cX3_outdated 26 = .ok (.istore 5, 2) := dk_54 5 (dk_at dksX3_outdated_1 3 rfl rfl)
theorem dX3_outdated_28 : decode cX3_outdated 28 = .ok (.iload 5, 2) := dk_21 5 (dk_at dksX3_outdated_1 5 rfl rfl)
theorem dX3_outdated_30 : decode cX3_outdated 30 = .ok (.aload_n 0, 1) := dk_42 (dk_at dksX3_outdated_1 7 rfl rfl)
theorem dX3_outdated_31 : decode cX3_outdated 31 = .ok (.getfield 47, 3) := dk_180 0 47 (dk_at dksX3_outdated_1 8 rfl rfl)
theorem dX3_outdated_34 : decode cX3_outdated 34 = .ok (.iload_n 3, 1) := dk_29 (dk_at dksX3_outdated_1 11 rfl rfl)
theorem dX3_outdated_35 : decode cX3_outdated 35 = .ok (.iaload, 1) := dk_46 (dk_at dksX3_outdated_1 12 rfl rfl)
theorem dX3_outdated_36 : decode cX3_outdated 36 = .ok (.if_icmp .ge 63, 3) := dk_162 0 63 (dk_at dksX3_outdated_1 13 rfl rfl)
theorem dX3_outdated_39 : decode cX3_outdated 39 = .ok (.iload 4, 2) := dk_21 4 (dk_at dksX3_outdated_1 16 rfl rfl)
theorem dX3_outdated_41 : decode cX3_outdated 41 = .ok (.ifCond .ne 45, 3) := dk_154 0 45 (dk_at dksX3_outdated_1 18 rfl rfl)
theorem dX3_outdated_44 : decode cX3_outdated 44 = .ok (.aload_n 0, 1) := dk_42 (dk_at dksX3_outdated_1 21 rfl rfl)
theorem dX3_outdated_45 : decode cX3_outdated 45 = .ok (.getfield 19, 3) := dk_180 0 19 (dk_at dksX3_outdated_2 0 rfl rfl)
theorem dX3_outdated_48 : decode cX3_outdated 48 = .ok (.bipush 16, 2) := dk_16 16 (dk_at dksX3_outdated_2 3 rfl rfl)
theorem dX3_outdated_50 : decode cX3_outdated 50 = .ok (.aload_n 0, 1) := dk_42 (dk_at dksX3_outdated_2 5 rfl rfl)
theorem dX3_outdated_51 : decode cX3_outdated 51 = .ok (.getfield 41, 3) := dk_180 0 41 (dk_at dksX3_outdated_2 6 rfl rfl)
theorem dX3_outdated_54 : decode cX3_outdated 54 = .ok (.iload_n 3, 1) := dk_29 (dk_at dksX3_outdated_2 9 rfl rfl)
theorem dX3_outdated_55 : decode cX3_outdated 55 = .ok (.iaload, 1) := dk_46 (dk_at dksX3_outdated_2 10 rfl rfl)
theorem dX3_outdated_56 : decode cX3_outdated 56 = .ok (.imul, 1) := dk_104 (dk_at dksX3_outdated_2 11 rfl rfl)
theorem dX3_outdated_57 : decode cX3_outdated 57 = .ok (.iload 5, 2) := dk_21 5 (dk_at dksX3_outdated_2 12 rfl rfl)
theorem dX3_outdated_59 : decode cX3_outdated 59 = .ok (.iadd, 1) := dk_96 (dk_at dksX3_outdated_2 14 rfl rfl)
theorem dX3_outdated_60 : decode cX3_outdated 60 = .ok (.iaload, 1) := dk_46 (dk_at dksX3_outdated_2 15 rfl rfl)
theorem dX3_outdated_61 : decode cX3_outdated 61 = .ok (.iload_n 1, 1) := dk_27 (dk_at dksX3_outdated_2 16 rfl rfl)
theorem dX3_outdated_62 : decode cX3_outdated 62 = .ok (.if_icmp .ne 28, 3) := dk_160 0 28 (dk_at dksX3_outdated_2 17 rfl rfl)
theorem dX3_outdated_65 : decode cX3_outdated 65 = .ok (.aload_n 0, 1) := dk_42 (dk_at dksX3_outdated_2 20 rfl rfl)
theorem dX3_outdated_66 : decode cX3_outdated 66 = .ok (.getfield 50, 3) := dk_180 0 50 (dk_at dksX3_outdated_2 21 rfl rfl)
theorem dX3_outdated_69 : decode cX3_outdated 69 = .ok (.bipush 16, 2) := dk_16 16 (dk_at dksX3_outdated_3 0 rfl rfl)
theorem dX3_outdated_71 : decode cX3_outdated 71 = .ok (.iload_n 3, 1) := dk_29 (dk_at dksX3_outdated_3 2 rfl rfl)
theorem dX3_outdated_72 : decode cX3_outdated 72 = .ok (.imul, 1) := dk_104 (dk_at dksX3_outdated_3 3 rfl rfl)
theorem dX3_outdated_73 : decode cX3_outdated 73 = .ok (.iload 5, 2) := dk_21 5 (dk_at dksX3_outdated_3 4 rfl rfl)
theorem dX3_outdated_75 : decode cX3_outdated 75 = .ok (.iadd, 1) := dk_96 (dk_at dksX3_outdated_3 6 rfl rfl)
theorem dX3_outdated_76 : decode cX3_outdated 76 = .ok (.iaload, 1) := dk_46 (dk_at dksX3_outdated_3 7 rfl rfl)
theorem dX3_outdated_77 : decode cX3_outdated 77 = .ok (.aload_n 0, 1) := dk_42 (dk_at dksX3_outdated_3 8 rfl rfl)
theorem dX3_outdated_78 : decode cX3_outdated 78 = .ok (.getfield 7, 3) := dk_180 0 7 (dk_at dksX3_outdated_3 9 rfl rfl)
theorem dX3_outdated_81 : decode cX3_outdated 81 = .ok (.iload_n 1, 1) := dk_27 (dk_at dksX3_outdated_3 12 rfl rfl)
theorem dX3_outdated_82 : decode cX3_outdated 82 = .ok (.iaload, 1) := dk_46 (dk_at dksX3_outdated_3 13 rfl rfl)
theorem dX3_outdated_83 : decode cX3_outdated 83 = .ok (.if_icmp .eq 7, 3) := dk_159 0 7 (dk_at dksX3_outdated_3 14 rfl rfl)
theorem dX3_outdated_86 : decode cX3_outdated 86 = .ok (.iconst 1, 1) := dk_4 (dk_at dksX3_outdated_3 17 rfl rfl)
theorem dX3_outdated_87 : decode cX3_outdated 87 = .ok (.goto 4, 3) := dk_167 0 4 (dk_at dksX3_outdated_3 18 rfl rfl)
theorem dX3_outdated_90 : decode cX3_outdated 90 = .ok (.iconst 0, 1) := dk_3 (dk_at dksX3_outdated_3 21 rfl rfl)
theorem dX3_outdated_91 : decode cX3_outdated 91 = .ok (.istore 4, 2) := dk_54 4 (dk_at dksX3_outdated_3 22 rfl rfl)
theorem dX3_outdated_93 : decode cX3_outdated 93 = .ok (.iinc 5 1, 3) := dk_132 5 1 (dk_at dksX3_outdated_4 0 rfl rfl)
theorem dX3_outdated_96 : decode cX3_outdated 96 = .ok (.goto (-68), 3) := dk_167 255 188 (dk_at dksX3_outdated_4 3 rfl rfl)
theorem dX3_outdated_99 : decode cX3_outdated 99 = .ok (.iload_n 2, 1) := dk_28 (dk_at dksX3_outdated_4 6 rfl rfl)
theorem dX3_outdated_100 : decode cX3_outdated 100 = .ok (.iload 4, 2) := dk_21 4 (dk_at dksX3_outdated_4 7 rfl rfl)
theorem dX3_outdated_102 : decode cX3_outdated 102 = .ok (.ifCond .eq 12, 3) := dk_153 0 12 (dk_at dksX3_outdated_4 9 rfl rfl)
theorem dX3_outdated_105 : decode cX3_outdated 105 = .ok (.aload_n 0, 1) := dk_42 (dk_at dksX3_outdated_4 12 rfl rfl)
theorem dX3_outdated_106 : decode cX3_outdated 106 = .ok (.getfield 44, 3) := dk_180 0 44 (dk_at dksX3_outdated_4 13 rfl rfl)
theorem dX3_outdated_109 : decode cX3_outdated 109 = .ok (.iload_n 3, 1) := dk_29 (dk_at dksX3_outdated_4 16 rfl rfl)
theorem dX3_outdated_110 : decode cX3_outdated 110 = .ok (.iaload, 1) := dk_46 (dk_at dksX3_outdated_4 17 rfl rfl)
theorem dX3_outdated_111 : decode cX3_outdated 111 = .ok (.goto 4, 3) := dk_167 0 4 (dk_at dksX3_outdated_4 18 rfl rfl)
theorem dX3_outdated_114 : decode cX3_outdated 114 = .ok (.iconst 0, 1) := dk_3 (dk_at dksX3_outdated_4 21 rfl rfl)
theorem dX3_outdated_115 : decode cX3_outdated 115 = .ok (.iadd, 1) := dk_96 (dk_at dksX3_outdated_4 22 rfl rfl)
theorem dX3_outdated_116 : decode cX3_outdated 116 = .ok (.istore_n 2, 1) := dk_61 (dk_at dksX3_outdated_4 23 rfl rfl)
theorem dX3_outdated_117 : decode cX3_outdated 117 = .ok (.iinc 3 1, 3) := dk_132 3 1 (dk_at dksX3_outdated_5 0 rfl rfl)
theorem dX3_outdated_120 : decode cX3_outdated 120 = .ok (.goto (-106), 3) := dk_167 255 150 (dk_at dksX3_outdated_5 3 rfl rfl)
theorem dX3_outdated_123 : decode cX3_outdated 123 = .ok (.iload_n 2, 1) := dk_28 (dk_at dksX3_outdated_5 6 rfl rfl)
theorem dX3_outdated_124 : decode cX3_outdated 124 = .ok (.ireturn, 1) := dk_172 (dk_at dksX3_outdated_5 7 rfl rfl)
abbrev cX3_waste : ByteArray := prog_15_method_47_code
def yX3_waste : MethodName := ⟨RX3, "waste", "()J"⟩
def dkwX3_waste_0 : List UInt8 := [42, 3, 181, 0, 53, 42, 180, 0, 97, 173]
abbrev dktX3_waste_0 : List UInt8 := dkwX3_waste_0 ++ []
theorem dksX3_waste_0 : cX3_waste.data.toList.drop 0 = dktX3_waste_0 := by decide +kernel
theorem dX3_waste_0 : decode cX3_waste 0 = .ok (.aload_n 0, 1) := dk_42 (dk_at dksX3_waste_0 0 rfl rfl)
theorem dX3_waste_1 : decode cX3_waste 1 = .ok (.iconst 0, 1) := dk_3 (dk_at dksX3_waste_0 1 rfl rfl)
theorem dX3_waste_2 : decode cX3_waste 2 = .ok (.putfield 53, 3) := dk_181 0 53 (dk_at dksX3_waste_0 2 rfl rfl)
theorem dX3_waste_5 : decode cX3_waste 5 = .ok (.aload_n 0, 1) := dk_42 (dk_at dksX3_waste_0 5 rfl rfl)
theorem dX3_waste_6 : decode cX3_waste 6 = .ok (.getfield 97, 3) := dk_180 0 97 (dk_at dksX3_waste_0 6 rfl rfl)
theorem dX3_waste_9 : decode cX3_waste 9 = .ok (.lreturn, 1) := dk_173 (dk_at dksX3_waste_0 9 rfl rfl)
abbrev cX3_wasteShare : ByteArray := prog_15_method_48_code
def yX3_wasteShare : MethodName := ⟨RX3, "wasteShare", "()F"⟩
def dkwX3_wasteShare_1 : List UInt8 := [154, 0, 7, 11, 167, 0, 14, 42, 180, 0, 97, 137, 42, 180, 0, 138, 137, 110, 174]
abbrev dktX3_wasteShare_1 : List UInt8 := dkwX3_wasteShare_1 ++ []
def dkwX3_wasteShare_0 : List UInt8 := [42, 42, 180, 0, 138, 9, 148, 154, 0, 7, 4, 167, 0, 4, 3, 181, 0, 53, 42, 180, 0, 138, 9, 148]
abbrev dktX3_wasteShare_0 : List UInt8 := dkwX3_wasteShare_0 ++ dktX3_wasteShare_1
theorem dksX3_wasteShare_0 : cX3_wasteShare.data.toList.drop 0 = dktX3_wasteShare_0 := by decide +kernel
theorem dksX3_wasteShare_1 : cX3_wasteShare.data.toList.drop 24 = dktX3_wasteShare_1 := dk_seg dksX3_wasteShare_0 24 rfl rfl
theorem dX3_wasteShare_0 : decode cX3_wasteShare 0 = .ok (.aload_n 0, 1) := dk_42 (dk_at dksX3_wasteShare_0 0 rfl rfl)
theorem dX3_wasteShare_1 : decode cX3_wasteShare 1 = .ok (.aload_n 0, 1) := dk_42 (dk_at dksX3_wasteShare_0 1 rfl rfl)
theorem dX3_wasteShare_2 : decode cX3_wasteShare 2 = .ok (.getfield 138, 3) := dk_180 0 138 (dk_at dksX3_wasteShare_0 2 rfl rfl)
theorem dX3_wasteShare_5 : decode cX3_wasteShare 5 = .ok (.lconst 0, 1) := dk_9 (dk_at dksX3_wasteShare_0 5 rfl rfl)
theorem dX3_wasteShare_6 : decode cX3_wasteShare 6 = .ok (.lcmp, 1) := dk_148 (dk_at dksX3_wasteShare_0 6 rfl rfl)
theorem dX3_wasteShare_7 : decode cX3_wasteShare 7 = .ok (.ifCond .ne 7, 3) := dk_154 0 7 (dk_at dksX3_wasteShare_0 7 rfl rfl)
theorem dX3_wasteShare_10 : decode cX3_wasteShare 10 = .ok (.iconst 1, 1) := dk_4 (dk_at dksX3_wasteShare_0 10 rfl rfl)
theorem dX3_wasteShare_11 : decode cX3_wasteShare 11 = .ok (.goto 4, 3) := dk_167 0 4 (dk_at dksX3_wasteShare_0 11 rfl rfl)
theorem dX3_wasteShare_14 : decode cX3_wasteShare 14 = .ok (.iconst 0, 1) := dk_3 (dk_at dksX3_wasteShare_0 14 rfl rfl)
theorem dX3_wasteShare_15 : decode cX3_wasteShare 15 = .ok (.putfield 53, 3) := dk_181 0 53 (dk_at dksX3_wasteShare_0 15 rfl rfl)
theorem dX3_wasteShare_18 : decode cX3_wasteShare 18 = .ok (.aload_n 0, 1) := dk_42 (dk_at dksX3_wasteShare_0 18 rfl rfl)
theorem dX3_wasteShare_19 : decode cX3_wasteShare 19 = .ok (.getfield 138, 3) := dk_180 0 138 (dk_at dksX3_wasteShare_0 19 rfl rfl)
theorem dX3_wasteShare_22 : decode cX3_wasteShare 22 = .ok (.lconst 0, 1) := dk_9 (dk_at dksX3_wasteShare_0 22 rfl rfl)
theorem dX3_wasteShare_23 : decode cX3_wasteShare 23 = .ok (.lcmp, 1) := dk_148 (dk_at dksX3_wasteShare_0 23 rfl rfl)
theorem dX3_wasteShare_24 : decode cX3_wasteShare 24 = .ok (.ifCond .ne 7, 3) := dk_154 0 7 (dk_at dksX3_wasteShare_1 0 rfl rfl)
theorem dX3_wasteShare_27 : decode cX3_wasteShare 27 = .ok (.fconst 0, 1) := dk_11 (dk_at dksX3_wasteShare_1 3 rfl rfl)
theorem dX3_wasteShare_28 : decode cX3_wasteShare 28 = .ok (.goto 14, 3) := dk_167 0 14 (dk_at dksX3_wasteShare_1 4 rfl rfl)
theorem dX3_wasteShare_31 : decode cX3_wasteShare 31 = .ok (.aload_n 0, 1) := dk_42 (dk_at dksX3_wasteShare_1 7 rfl rfl)
theorem dX3_wasteShare_32 : decode cX3_wasteShare 32 = .ok (.getfield 97, 3) := dk_180 0 97 (dk_at dksX3_wasteShare_1 8 rfl rfl)
theorem dX3_wasteShare_35 : decode cX3_wasteShare 35 = .ok (.l2f, 1) := dk_137 (dk_at dksX3_wasteShare_1 11 rfl rfl)
theorem dX3_wasteShare_36 : decode cX3_wasteShare 36 = .ok (.aload_n 0, 1) := dk_42 (dk_at dksX3_wasteShare_1 12 rfl rfl)
theorem dX3_wasteShare_37 : decode cX3_wasteShare 37 = .ok (.getfield 138, 3) := dk_180 0 138 (dk_at dksX3_wasteShare_1 13 rfl rfl)
theorem dX3_wasteShare_40 : decode cX3_wasteShare 40 = .ok (.l2f, 1) := dk_137 (dk_at dksX3_wasteShare_1 16 rfl rfl)
theorem dX3_wasteShare_41 : decode cX3_wasteShare 41 = .ok (.fdiv, 1) := dk_110 (dk_at dksX3_wasteShare_1 17 rfl rfl)
theorem dX3_wasteShare_42 : decode cX3_wasteShare 42 = .ok (.freturn, 1) := dk_174 (dk_at dksX3_wasteShare_1 18 rfl rfl)
abbrev cX3_meanMakeready : ByteArray := prog_15_method_49_code
def yX3_meanMakeready : MethodName := ⟨RX3, "meanMakeready", "()D"⟩
def dkwX3_meanMakeready_1 : List UInt8 := [167, 0, 14, 42, 180, 0, 144, 135, 42, 180, 0, 141, 135, 111, 175]
abbrev dktX3_meanMakeready_1 : List UInt8 := dkwX3_meanMakeready_1 ++ []
def dkwX3_meanMakeready_0 : List UInt8 := [42, 42, 180, 0, 141, 154, 0, 7, 4, 167, 0, 4, 3, 181, 0, 53, 42, 180, 0, 141, 154, 0, 7, 14]
abbrev dktX3_meanMakeready_0 : List UInt8 := dkwX3_meanMakeready_0 ++ dktX3_meanMakeready_1
theorem dksX3_meanMakeready_0 : cX3_meanMakeready.data.toList.drop 0 = dktX3_meanMakeready_0 := by decide +kernel
theorem dksX3_meanMakeready_1 : cX3_meanMakeready.data.toList.drop 24 = dktX3_meanMakeready_1 := dk_seg dksX3_meanMakeready_0 24 rfl rfl
theorem dX3_meanMakeready_0 : decode cX3_meanMakeready 0 = .ok (.aload_n 0, 1) := dk_42 (dk_at dksX3_meanMakeready_0 0 rfl rfl)
theorem dX3_meanMakeready_1 : decode cX3_meanMakeready 1 = .ok (.aload_n 0, 1) := dk_42 (dk_at dksX3_meanMakeready_0 1 rfl rfl)
theorem dX3_meanMakeready_2 : decode cX3_meanMakeready 2 = .ok (.getfield 141, 3) := dk_180 0 141 (dk_at dksX3_meanMakeready_0 2 rfl rfl)
theorem dX3_meanMakeready_5 : decode cX3_meanMakeready 5 = .ok (.ifCond .ne 7, 3) := dk_154 0 7 (dk_at dksX3_meanMakeready_0 5 rfl rfl)
theorem dX3_meanMakeready_8 : decode cX3_meanMakeready 8 = .ok (.iconst 1, 1) := dk_4 (dk_at dksX3_meanMakeready_0 8 rfl rfl)
theorem dX3_meanMakeready_9 : decode cX3_meanMakeready 9 = .ok (.goto 4, 3) := dk_167 0 4 (dk_at dksX3_meanMakeready_0 9 rfl rfl)
theorem dX3_meanMakeready_12 : decode cX3_meanMakeready 12 = .ok (.iconst 0, 1) := dk_3 (dk_at dksX3_meanMakeready_0 12 rfl rfl)
theorem dX3_meanMakeready_13 : decode cX3_meanMakeready 13 = .ok (.putfield 53, 3) := dk_181 0 53 (dk_at dksX3_meanMakeready_0 13 rfl rfl)
theorem dX3_meanMakeready_16 : decode cX3_meanMakeready 16 = .ok (.aload_n 0, 1) := dk_42 (dk_at dksX3_meanMakeready_0 16 rfl rfl)
theorem dX3_meanMakeready_17 : decode cX3_meanMakeready 17 = .ok (.getfield 141, 3) := dk_180 0 141 (dk_at dksX3_meanMakeready_0 17 rfl rfl)
theorem dX3_meanMakeready_20 : decode cX3_meanMakeready 20 = .ok (.ifCond .ne 7, 3) := dk_154 0 7 (dk_at dksX3_meanMakeready_0 20 rfl rfl)
theorem dX3_meanMakeready_23 : decode cX3_meanMakeready 23 = .ok (.dconst 0, 1) := dk_14 (dk_at dksX3_meanMakeready_0 23 rfl rfl)
theorem dX3_meanMakeready_24 : decode cX3_meanMakeready 24 = .ok (.goto 14, 3) := dk_167 0 14 (dk_at dksX3_meanMakeready_1 0 rfl rfl)
theorem dX3_meanMakeready_27 : decode cX3_meanMakeready 27 = .ok (.aload_n 0, 1) := dk_42 (dk_at dksX3_meanMakeready_1 3 rfl rfl)
theorem dX3_meanMakeready_28 : decode cX3_meanMakeready 28 = .ok (.getfield 144, 3) := dk_180 0 144 (dk_at dksX3_meanMakeready_1 4 rfl rfl)
theorem dX3_meanMakeready_31 : decode cX3_meanMakeready 31 = .ok (.i2d, 1) := dk_135 (dk_at dksX3_meanMakeready_1 7 rfl rfl)
theorem dX3_meanMakeready_32 : decode cX3_meanMakeready 32 = .ok (.aload_n 0, 1) := dk_42 (dk_at dksX3_meanMakeready_1 8 rfl rfl)
theorem dX3_meanMakeready_33 : decode cX3_meanMakeready 33 = .ok (.getfield 141, 3) := dk_180 0 141 (dk_at dksX3_meanMakeready_1 9 rfl rfl)
theorem dX3_meanMakeready_36 : decode cX3_meanMakeready 36 = .ok (.i2d, 1) := dk_135 (dk_at dksX3_meanMakeready_1 12 rfl rfl)
theorem dX3_meanMakeready_37 : decode cX3_meanMakeready 37 = .ok (.ddiv, 1) := dk_111 (dk_at dksX3_meanMakeready_1 13 rfl rfl)
theorem dX3_meanMakeready_38 : decode cX3_meanMakeready 38 = .ok (.dreturn, 1) := dk_175 (dk_at dksX3_meanMakeready_1 14 rfl rfl)
theorem q50 : (Jvm.Cond.initialized "BinderyDeskModel") ∈ lw_all := lw_g (lw_at lw_m1 10 rfl) rfl
theorem q404 : (Jvm.Cond.selects "BinderyDeskModel" ({ cls := "java/lang/Object", name := "getClass", desc := "()Ljava/lang/Class;" } : Jvm.MethodName) ({ cls := "java/lang/Object", name := "getClass", desc := "()Ljava/lang/Class;" } : Jvm.MethodName)) ∈ lw_all := lw_g (lw_at lw_m2 124 rfl) rfl
theorem q1336 : (Jvm.Cond.selects "BinderyDeskModel" ({ cls := "java/lang/Object", name := "equals", desc := "(Ljava/lang/Object;)Z" } : Jvm.MethodName) ({ cls := "java/lang/Object", name := "equals", desc := "(Ljava/lang/Object;)Z" } : Jvm.MethodName)) ∈ lw_all := lw_g (lw_at lw_m6 96 rfl) rfl
theorem q1564 : (Jvm.Cond.instantiable "BinderyDeskModel" (26 : Nat)) ∈ lw_all := lw_g (lw_at lw_m7 84 rfl) rfl
theorem q1566 : (Jvm.Cond.instanceMethod ({ cls := "BinderyDeskModel", name := "<init>", desc := "()V" } : Jvm.MethodName)) ∈ lw_all := lw_g (lw_at lw_m7 86 rfl) rfl
theorem q1567 : (Jvm.Cond.code ({ cls := "BinderyDeskModel", name := "<init>", desc := "()V" } : Jvm.MethodName) prog_15_method_1_code (1 : Nat) (Option.none : Option Jvm.ClassFile.FieldType)) ∈ lw_all := lw_g (lw_at lw_m7 87 rfl) rfl
theorem q1568 : (Jvm.Cond.methodLink "BinderyDeskModel" (1 : Nat) ({ cls := "java/lang/Object", name := "<init>", desc := "()V" } : Jvm.MethodName)) ∈ lw_all := lw_g (lw_at lw_m7 88 rfl) rfl
theorem q1569 : (Jvm.Cond.fieldLink "BinderyDeskModel" (53 : Nat) "BinderyDeskModel" "thrown" "I") ∈ lw_all := lw_g (lw_at lw_m7 89 rfl) rfl
theorem q1570 : (Jvm.Cond.fieldLink "BinderyDeskModel" (57 : Nat) "BinderyDeskModel" "contents" "I") ∈ lw_all := lw_g (lw_at lw_m7 90 rfl) rfl
theorem q1571 : (Jvm.Cond.fieldLink "BinderyDeskModel" (68 : Nat) "BinderyDeskModel" "jobs" "I") ∈ lw_all := lw_g (lw_at lw_m7 91 rfl) rfl
theorem q1572 : (Jvm.Cond.fieldLink "BinderyDeskModel" (156 : Nat) "BinderyDeskModel" "lots" "I") ∈ lw_all := lw_g (lw_at lw_m7 92 rfl) rfl
theorem q1573 : (Jvm.Cond.fieldLink "BinderyDeskModel" (91 : Nat) "BinderyDeskModel" "made" "I") ∈ lw_all := lw_g (lw_at lw_m7 93 rfl) rfl
theorem q1574 : (Jvm.Cond.fieldLink "BinderyDeskModel" (141 : Nat) "BinderyDeskModel" "prints" "I") ∈ lw_all := lw_g (lw_at lw_m7 94 rfl) rfl
theorem q1575 : (Jvm.Cond.fieldLink "BinderyDeskModel" (144 : Nat) "BinderyDeskModel" "minutes" "I") ∈ lw_all := lw_g (lw_at lw_m7 95 rfl) rfl
theorem q1576 : (Jvm.Cond.fieldLink "BinderyDeskModel" (122 : Nat) "BinderyDeskModel" "front" "I") ∈ lw_all := lw_g (lw_at lw_m7 96 rfl) rfl
theorem q1577 : (Jvm.Cond.fieldLink "BinderyDeskModel" (125 : Nat) "BinderyDeskModel" "back" "I") ∈ lw_all := lw_g (lw_at lw_m7 97 rfl) rfl
theorem q1578 : (Jvm.Cond.fieldLink "BinderyDeskModel" (128 : Nat) "BinderyDeskModel" "onPress" "I") ∈ lw_all := lw_g (lw_at lw_m7 98 rfl) rfl
theorem q1579 : (Jvm.Cond.fieldLink "BinderyDeskModel" (97 : Nat) "BinderyDeskModel" "wasted" "J") ∈ lw_all := lw_g (lw_at lw_m7 99 rfl) rfl
theorem q1580 : (Jvm.Cond.fieldLink "BinderyDeskModel" (138 : Nat) "BinderyDeskModel" "printed" "J") ∈ lw_all := lw_g (lw_at lw_m7 100 rfl) rfl
theorem q1581 : (Jvm.Cond.fieldLink "BinderyDeskModel" (7 : Nat) "BinderyDeskModel" "state" "[I") ∈ lw_all := lw_g (lw_at lw_m7 101 rfl) rfl
theorem q1582 : (Jvm.Cond.fieldLink "BinderyDeskModel" (13 : Nat) "BinderyDeskModel" "binding" "[I") ∈ lw_all := lw_g (lw_at lw_m7 102 rfl) rfl
theorem q1583 : (Jvm.Cond.fieldLink "BinderyDeskModel" (16 : Nat) "BinderyDeskModel" "pageCount" "[I") ∈ lw_all := lw_g (lw_at lw_m7 103 rfl) rfl
theorem q1584 : (Jvm.Cond.fieldLink "BinderyDeskModel" (19 : Nat) "BinderyDeskModel" "page" "[I") ∈ lw_all := lw_g (lw_at lw_m7 104 rfl) rfl
theorem q1585 : (Jvm.Cond.fieldLink "BinderyDeskModel" (22 : Nat) "BinderyDeskModel" "stock" "[I") ∈ lw_all := lw_g (lw_at lw_m7 105 rfl) rfl
theorem q1586 : (Jvm.Cond.fieldLink "BinderyDeskModel" (25 : Nat) "BinderyDeskModel" "isApproved" "[Z") ∈ lw_all := lw_g (lw_at lw_m7 106 rfl) rfl
theorem q1587 : (Jvm.Cond.fieldLink "BinderyDeskModel" (29 : Nat) "BinderyDeskModel" "plate" "[I") ∈ lw_all := lw_g (lw_at lw_m7 107 rfl) rfl
theorem q1588 : (Jvm.Cond.fieldLink "BinderyDeskModel" (32 : Nat) "BinderyDeskModel" "fronts" "[I") ∈ lw_all := lw_g (lw_at lw_m7 108 rfl) rfl
theorem q1589 : (Jvm.Cond.fieldLink "BinderyDeskModel" (35 : Nat) "BinderyDeskModel" "backs" "[I") ∈ lw_all := lw_g (lw_at lw_m7 109 rfl) rfl
theorem q1590 : (Jvm.Cond.fieldLink "BinderyDeskModel" (38 : Nat) "BinderyDeskModel" "best" "[I") ∈ lw_all := lw_g (lw_at lw_m7 110 rfl) rfl
theorem q1591 : (Jvm.Cond.fieldLink "BinderyDeskModel" (41 : Nat) "BinderyDeskModel" "lotJob" "[I") ∈ lw_all := lw_g (lw_at lw_m7 111 rfl) rfl
theorem q1592 : (Jvm.Cond.fieldLink "BinderyDeskModel" (44 : Nat) "BinderyDeskModel" "lotCopies" "[I") ∈ lw_all := lw_g (lw_at lw_m7 112 rfl) rfl
theorem q1593 : (Jvm.Cond.fieldLink "BinderyDeskModel" (47 : Nat) "BinderyDeskModel" "lotPages" "[I") ∈ lw_all := lw_g (lw_at lw_m7 113 rfl) rfl
theorem q1594 : (Jvm.Cond.fieldLink "BinderyDeskModel" (50 : Nat) "BinderyDeskModel" "lotState" "[I") ∈ lw_all := lw_g (lw_at lw_m7 114 rfl) rfl
theorem q1595 : (Jvm.Cond.lays "BinderyDeskModel" "BinderyDeskModel" "thrown" "I") ∈ lw_all := lw_g (lw_at lw_m7 115 rfl) rfl
theorem q1596 : (Jvm.Cond.soleField "BinderyDeskModel" "thrown") ∈ lw_all := lw_g (lw_at lw_m7 116 rfl) rfl
theorem q1597 : (Jvm.Cond.lays "BinderyDeskModel" "BinderyDeskModel" "contents" "I") ∈ lw_all := lw_g (lw_at lw_m7 117 rfl) rfl
theorem q1598 : (Jvm.Cond.soleField "BinderyDeskModel" "contents") ∈ lw_all := lw_g (lw_at lw_m7 118 rfl) rfl
theorem q1599 : (Jvm.Cond.lays "BinderyDeskModel" "BinderyDeskModel" "jobs" "I") ∈ lw_all := lw_g (lw_at lw_m7 119 rfl) rfl
theorem q1600 : (Jvm.Cond.soleField "BinderyDeskModel" "jobs") ∈ lw_all := lw_g (lw_at lw_m7 120 rfl) rfl
theorem q1601 : (Jvm.Cond.lays "BinderyDeskModel" "BinderyDeskModel" "lots" "I") ∈ lw_all := lw_g (lw_at lw_m7 121 rfl) rfl
theorem q1602 : (Jvm.Cond.soleField "BinderyDeskModel" "lots") ∈ lw_all := lw_g (lw_at lw_m7 122 rfl) rfl
theorem q1603 : (Jvm.Cond.lays "BinderyDeskModel" "BinderyDeskModel" "made" "I") ∈ lw_all := lw_g (lw_at lw_m7 123 rfl) rfl
theorem q1604 : (Jvm.Cond.soleField "BinderyDeskModel" "made") ∈ lw_all := lw_g (lw_at lw_m7 124 rfl) rfl
theorem q1605 : (Jvm.Cond.lays "BinderyDeskModel" "BinderyDeskModel" "prints" "I") ∈ lw_all := lw_g (lw_at lw_m7 125 rfl) rfl
theorem q1606 : (Jvm.Cond.soleField "BinderyDeskModel" "prints") ∈ lw_all := lw_g (lw_at lw_m7 126 rfl) rfl
theorem q1607 : (Jvm.Cond.lays "BinderyDeskModel" "BinderyDeskModel" "minutes" "I") ∈ lw_all := lw_g (lw_at lw_m7 127 rfl) rfl
theorem q1608 : (Jvm.Cond.soleField "BinderyDeskModel" "minutes") ∈ lw_all := lw_g (lw_at lw_m7 128 rfl) rfl
theorem q1609 : (Jvm.Cond.lays "BinderyDeskModel" "BinderyDeskModel" "front" "I") ∈ lw_all := lw_g (lw_at lw_m7 129 rfl) rfl
theorem q1610 : (Jvm.Cond.soleField "BinderyDeskModel" "front") ∈ lw_all := lw_g (lw_at lw_m7 130 rfl) rfl
theorem q1611 : (Jvm.Cond.lays "BinderyDeskModel" "BinderyDeskModel" "back" "I") ∈ lw_all := lw_g (lw_at lw_m7 131 rfl) rfl
theorem q1612 : (Jvm.Cond.soleField "BinderyDeskModel" "back") ∈ lw_all := lw_g (lw_at lw_m7 132 rfl) rfl
theorem q1613 : (Jvm.Cond.lays "BinderyDeskModel" "BinderyDeskModel" "onPress" "I") ∈ lw_all := lw_g (lw_at lw_m7 133 rfl) rfl
theorem q1614 : (Jvm.Cond.soleField "BinderyDeskModel" "onPress") ∈ lw_all := lw_g (lw_at lw_m7 134 rfl) rfl
theorem q1615 : (Jvm.Cond.lays "BinderyDeskModel" "BinderyDeskModel" "wasted" "J") ∈ lw_all := lw_g (lw_at lw_m7 135 rfl) rfl
theorem q1616 : (Jvm.Cond.soleField "BinderyDeskModel" "wasted") ∈ lw_all := lw_g (lw_at lw_m7 136 rfl) rfl
theorem q1617 : (Jvm.Cond.lays "BinderyDeskModel" "BinderyDeskModel" "printed" "J") ∈ lw_all := lw_g (lw_at lw_m7 137 rfl) rfl
theorem q1618 : (Jvm.Cond.soleField "BinderyDeskModel" "printed") ∈ lw_all := lw_g (lw_at lw_m7 138 rfl) rfl
theorem q1619 : (Jvm.Cond.laysFinal "BinderyDeskModel" "BinderyDeskModel" "state" "[I") ∈ lw_all := lw_g (lw_at lw_m7 139 rfl) rfl
theorem q1620 : (Jvm.Cond.soleField "BinderyDeskModel" "state") ∈ lw_all := lw_g (lw_at lw_m7 140 rfl) rfl
theorem q1621 : (Jvm.Cond.laysFinal "BinderyDeskModel" "BinderyDeskModel" "binding" "[I") ∈ lw_all := lw_g (lw_at lw_m7 141 rfl) rfl
theorem q1622 : (Jvm.Cond.soleField "BinderyDeskModel" "binding") ∈ lw_all := lw_g (lw_at lw_m7 142 rfl) rfl
theorem q1623 : (Jvm.Cond.laysFinal "BinderyDeskModel" "BinderyDeskModel" "pageCount" "[I") ∈ lw_all := lw_g (lw_at lw_m7 143 rfl) rfl
theorem q1624 : (Jvm.Cond.soleField "BinderyDeskModel" "pageCount") ∈ lw_all := lw_g (lw_at lw_m7 144 rfl) rfl
theorem q1625 : (Jvm.Cond.laysFinal "BinderyDeskModel" "BinderyDeskModel" "page" "[I") ∈ lw_all := lw_g (lw_at lw_m7 145 rfl) rfl
theorem q1626 : (Jvm.Cond.soleField "BinderyDeskModel" "page") ∈ lw_all := lw_g (lw_at lw_m7 146 rfl) rfl
theorem q1627 : (Jvm.Cond.laysFinal "BinderyDeskModel" "BinderyDeskModel" "stock" "[I") ∈ lw_all := lw_g (lw_at lw_m7 147 rfl) rfl
theorem q1628 : (Jvm.Cond.soleField "BinderyDeskModel" "stock") ∈ lw_all := lw_g (lw_at lw_m7 148 rfl) rfl
theorem q1629 : (Jvm.Cond.laysFinal "BinderyDeskModel" "BinderyDeskModel" "isApproved" "[Z") ∈ lw_all := lw_g (lw_at lw_m7 149 rfl) rfl
theorem q1630 : (Jvm.Cond.soleField "BinderyDeskModel" "isApproved") ∈ lw_all := lw_g (lw_at lw_m7 150 rfl) rfl
theorem q1631 : (Jvm.Cond.laysFinal "BinderyDeskModel" "BinderyDeskModel" "plate" "[I") ∈ lw_all := lw_g (lw_at lw_m7 151 rfl) rfl
theorem q1632 : (Jvm.Cond.soleField "BinderyDeskModel" "plate") ∈ lw_all := lw_g (lw_at lw_m7 152 rfl) rfl
theorem q1633 : (Jvm.Cond.laysFinal "BinderyDeskModel" "BinderyDeskModel" "fronts" "[I") ∈ lw_all := lw_g (lw_at lw_m7 153 rfl) rfl
theorem q1634 : (Jvm.Cond.soleField "BinderyDeskModel" "fronts") ∈ lw_all := lw_g (lw_at lw_m7 154 rfl) rfl
theorem q1635 : (Jvm.Cond.laysFinal "BinderyDeskModel" "BinderyDeskModel" "backs" "[I") ∈ lw_all := lw_g (lw_at lw_m7 155 rfl) rfl
theorem q1636 : (Jvm.Cond.soleField "BinderyDeskModel" "backs") ∈ lw_all := lw_g (lw_at lw_m7 156 rfl) rfl
theorem q1637 : (Jvm.Cond.laysFinal "BinderyDeskModel" "BinderyDeskModel" "best" "[I") ∈ lw_all := lw_g (lw_at lw_m7 157 rfl) rfl
theorem q1638 : (Jvm.Cond.soleField "BinderyDeskModel" "best") ∈ lw_all := lw_g (lw_at lw_m7 158 rfl) rfl
theorem q1639 : (Jvm.Cond.laysFinal "BinderyDeskModel" "BinderyDeskModel" "lotJob" "[I") ∈ lw_all := lw_g (lw_at lw_m7 159 rfl) rfl
theorem q1640 : (Jvm.Cond.soleField "BinderyDeskModel" "lotJob") ∈ lw_all := lw_g (lw_at lw_m7 160 rfl) rfl
theorem q1641 : (Jvm.Cond.laysFinal "BinderyDeskModel" "BinderyDeskModel" "lotCopies" "[I") ∈ lw_all := lw_g (lw_at lw_m7 161 rfl) rfl
theorem q1642 : (Jvm.Cond.soleField "BinderyDeskModel" "lotCopies") ∈ lw_all := lw_g (lw_at lw_m7 162 rfl) rfl
theorem q1643 : (Jvm.Cond.laysFinal "BinderyDeskModel" "BinderyDeskModel" "lotPages" "[I") ∈ lw_all := lw_g (lw_at lw_m7 163 rfl) rfl
theorem q1644 : (Jvm.Cond.soleField "BinderyDeskModel" "lotPages") ∈ lw_all := lw_g (lw_at lw_m7 164 rfl) rfl
theorem q1645 : (Jvm.Cond.laysFinal "BinderyDeskModel" "BinderyDeskModel" "lotState" "[I") ∈ lw_all := lw_g (lw_at lw_m7 165 rfl) rfl
theorem q1646 : (Jvm.Cond.soleField "BinderyDeskModel" "lotState") ∈ lw_all := lw_g (lw_at lw_m7 166 rfl) rfl
theorem q1647 : (Jvm.Cond.superclass "BinderyDeskModel" "java/lang/Object") ∈ lw_all := lw_g (lw_at lw_m7 167 rfl) rfl
theorem q1650 : (Jvm.Cond.instanceMethod ({ cls := "BinderyDeskModel", name := "thrown", desc := "()I" } : Jvm.MethodName)) ∈ lw_all := lw_g (lw_at lw_m7 170 rfl) rfl
theorem q1651 : (Jvm.Cond.selects "BinderyDeskModel" ({ cls := "BinderyDeskModel", name := "thrown", desc := "()I" } : Jvm.MethodName) ({ cls := "BinderyDeskModel", name := "thrown", desc := "()I" } : Jvm.MethodName)) ∈ lw_all := lw_g (lw_at lw_m7 171 rfl) rfl
theorem q1652 : (Jvm.Cond.code ({ cls := "BinderyDeskModel", name := "thrown", desc := "()I" } : Jvm.MethodName) prog_15_method_2_code (1 : Nat) (Option.some Jvm.ClassFile.FieldType.int)) ∈ lw_all := lw_g (lw_at lw_m7 172 rfl) rfl
theorem q1654 : (Jvm.Cond.instanceMethod ({ cls := "BinderyDeskModel", name := "addContent", desc := "()I" } : Jvm.MethodName)) ∈ lw_all := lw_g (lw_at lw_m7 174 rfl) rfl
theorem q1655 : (Jvm.Cond.selects "BinderyDeskModel" ({ cls := "BinderyDeskModel", name := "addContent", desc := "()I" } : Jvm.MethodName) ({ cls := "BinderyDeskModel", name := "addContent", desc := "()I" } : Jvm.MethodName)) ∈ lw_all := lw_g (lw_at lw_m7 175 rfl) rfl
theorem q1656 : (Jvm.Cond.code ({ cls := "BinderyDeskModel", name := "addContent", desc := "()I" } : Jvm.MethodName) prog_15_method_19_code (1 : Nat) (Option.some Jvm.ClassFile.FieldType.int)) ∈ lw_all := lw_g (lw_at lw_m7 176 rfl) rfl
theorem q1657 : (Jvm.Cond.methodLink "BinderyDeskModel" (101 : Nat) ({ cls := "BinderyDeskModel", name := "fails", desc := "(I)I" } : Jvm.MethodName)) ∈ lw_all := lw_g (lw_at lw_m7 177 rfl) rfl
theorem q1658 : (Jvm.Cond.privateMethod ({ cls := "BinderyDeskModel", name := "fails", desc := "(I)I" } : Jvm.MethodName)) ∈ lw_tbl := lw_at lw_m7 178 rfl
theorem q1659 : (Jvm.Cond.instanceMethod ({ cls := "BinderyDeskModel", name := "fails", desc := "(I)I" } : Jvm.MethodName)) ∈ lw_all := lw_g (lw_at lw_m7 179 rfl) rfl
theorem q1660 : (Jvm.Cond.code ({ cls := "BinderyDeskModel", name := "fails", desc := "(I)I" } : Jvm.MethodName) prog_15_method_3_code (2 : Nat) (Option.some Jvm.ClassFile.FieldType.int)) ∈ lw_all := lw_g (lw_at lw_m7 180 rfl) rfl
theorem q1662 : (Jvm.Cond.instanceMethod ({ cls := "BinderyDeskModel", name := "approve", desc := "(I)Z" } : Jvm.MethodName)) ∈ lw_all := lw_g (lw_at lw_m7 182 rfl) rfl
theorem q1663 : (Jvm.Cond.selects "BinderyDeskModel" ({ cls := "BinderyDeskModel", name := "approve", desc := "(I)Z" } : Jvm.MethodName) ({ cls := "BinderyDeskModel", name := "approve", desc := "(I)Z" } : Jvm.MethodName)) ∈ lw_all := lw_g (lw_at lw_m7 183 rfl) rfl
theorem q1664 : (Jvm.Cond.code ({ cls := "BinderyDeskModel", name := "approve", desc := "(I)Z" } : Jvm.MethodName) prog_15_method_20_code (3 : Nat) (Option.some Jvm.ClassFile.FieldType.boolean)) ∈ lw_all := lw_g (lw_at lw_m7 184 rfl) rfl
theorem q1665 : (Jvm.Cond.methodLink "BinderyDeskModel" (104 : Nat) ({ cls := "BinderyDeskModel", name := "isContent", desc := "(I)Z" } : Jvm.MethodName)) ∈ lw_all := lw_g (lw_at lw_m7 185 rfl) rfl
theorem q1666 : (Jvm.Cond.privateMethod ({ cls := "BinderyDeskModel", name := "isContent", desc := "(I)Z" } : Jvm.MethodName)) ∈ lw_tbl := lw_at lw_m7 186 rfl
theorem q1667 : (Jvm.Cond.instanceMethod ({ cls := "BinderyDeskModel", name := "isContent", desc := "(I)Z" } : Jvm.MethodName)) ∈ lw_all := lw_g (lw_at lw_m7 187 rfl) rfl
theorem q1668 : (Jvm.Cond.code ({ cls := "BinderyDeskModel", name := "isContent", desc := "(I)Z" } : Jvm.MethodName) prog_15_method_5_code (2 : Nat) (Option.some Jvm.ClassFile.FieldType.boolean)) ∈ lw_all := lw_g (lw_at lw_m7 188 rfl) rfl
theorem q1669 : (Jvm.Cond.methodLink "BinderyDeskModel" (60 : Nat) ({ cls := "BinderyDeskModel", name := "in", desc := "(III)Z" } : Jvm.MethodName)) ∈ lw_all := lw_g (lw_at lw_m7 189 rfl) rfl
theorem q1670 : (Jvm.Cond.static ({ cls := "BinderyDeskModel", name := "in", desc := "(III)Z" } : Jvm.MethodName)) ∈ lw_all := lw_g (lw_at lw_m7 190 rfl) rfl
theorem q1671 : (Jvm.Cond.code ({ cls := "BinderyDeskModel", name := "in", desc := "(III)Z" } : Jvm.MethodName) prog_15_method_4_code (3 : Nat) (Option.some Jvm.ClassFile.FieldType.boolean)) ∈ lw_all := lw_g (lw_at lw_m7 191 rfl) rfl
theorem q1673 : (Jvm.Cond.instanceMethod ({ cls := "BinderyDeskModel", name := "correct", desc := "(I)I" } : Jvm.MethodName)) ∈ lw_all := lw_g (lw_at lw_m7 193 rfl) rfl
theorem q1674 : (Jvm.Cond.selects "BinderyDeskModel" ({ cls := "BinderyDeskModel", name := "correct", desc := "(I)I" } : Jvm.MethodName) ({ cls := "BinderyDeskModel", name := "correct", desc := "(I)I" } : Jvm.MethodName)) ∈ lw_all := lw_g (lw_at lw_m7 194 rfl) rfl
theorem q1675 : (Jvm.Cond.code ({ cls := "BinderyDeskModel", name := "correct", desc := "(I)I" } : Jvm.MethodName) prog_15_method_21_code (5 : Nat) (Option.some Jvm.ClassFile.FieldType.int)) ∈ lw_all := lw_g (lw_at lw_m7 195 rfl) rfl
theorem q1676 : (Jvm.Cond.methodLink "BinderyDeskModel" (71 : Nat) ({ cls := "BinderyDeskModel", name := "isWhole", desc := "(I)Z" } : Jvm.MethodName)) ∈ lw_all := lw_g (lw_at lw_m7 196 rfl) rfl
theorem q1677 : (Jvm.Cond.privateMethod ({ cls := "BinderyDeskModel", name := "isWhole", desc := "(I)Z" } : Jvm.MethodName)) ∈ lw_tbl := lw_at lw_m7 197 rfl
theorem q1678 : (Jvm.Cond.instanceMethod ({ cls := "BinderyDeskModel", name := "isWhole", desc := "(I)Z" } : Jvm.MethodName)) ∈ lw_all := lw_g (lw_at lw_m7 198 rfl) rfl
theorem q1679 : (Jvm.Cond.code ({ cls := "BinderyDeskModel", name := "isWhole", desc := "(I)Z" } : Jvm.MethodName) prog_15_method_7_code (2 : Nat) (Option.some Jvm.ClassFile.FieldType.boolean)) ∈ lw_all := lw_g (lw_at lw_m7 199 rfl) rfl
theorem q1680 : (Jvm.Cond.methodLink "BinderyDeskModel" (64 : Nat) ({ cls := "BinderyDeskModel", name := "places", desc := "(I)I" } : Jvm.MethodName)) ∈ lw_all := lw_g (lw_at lw_m7 200 rfl) rfl
theorem q1681 : (Jvm.Cond.privateMethod ({ cls := "BinderyDeskModel", name := "places", desc := "(I)I" } : Jvm.MethodName)) ∈ lw_tbl := lw_at lw_m7 201 rfl
theorem q1682 : (Jvm.Cond.instanceMethod ({ cls := "BinderyDeskModel", name := "places", desc := "(I)I" } : Jvm.MethodName)) ∈ lw_all := lw_g (lw_at lw_m7 202 rfl) rfl
theorem q1683 : (Jvm.Cond.code ({ cls := "BinderyDeskModel", name := "places", desc := "(I)I" } : Jvm.MethodName) prog_15_method_6_code (2 : Nat) (Option.some Jvm.ClassFile.FieldType.int)) ∈ lw_all := lw_g (lw_at lw_m7 203 rfl) rfl
theorem q1684 : (Jvm.Cond.methodLink "BinderyDeskModel" (78 : Nat) ({ cls := "BinderyDeskModel", name := "count", desc := "(I)I" } : Jvm.MethodName)) ∈ lw_all := lw_g (lw_at lw_m7 204 rfl) rfl
theorem q1685 : (Jvm.Cond.privateMethod ({ cls := "BinderyDeskModel", name := "count", desc := "(I)I" } : Jvm.MethodName)) ∈ lw_tbl := lw_at lw_m7 205 rfl
theorem q1686 : (Jvm.Cond.instanceMethod ({ cls := "BinderyDeskModel", name := "count", desc := "(I)I" } : Jvm.MethodName)) ∈ lw_all := lw_g (lw_at lw_m7 206 rfl) rfl
theorem q1687 : (Jvm.Cond.code ({ cls := "BinderyDeskModel", name := "count", desc := "(I)I" } : Jvm.MethodName) prog_15_method_8_code (2 : Nat) (Option.some Jvm.ClassFile.FieldType.int)) ∈ lw_all := lw_g (lw_at lw_m7 207 rfl) rfl
theorem q1688 : (Jvm.Cond.methodLink "BinderyDeskModel" (107 : Nat) ({ cls := "BinderyDeskModel", name := "isShown", desc := "(III)Z" } : Jvm.MethodName)) ∈ lw_all := lw_g (lw_at lw_m7 208 rfl) rfl
theorem q1689 : (Jvm.Cond.privateMethod ({ cls := "BinderyDeskModel", name := "isShown", desc := "(III)Z" } : Jvm.MethodName)) ∈ lw_tbl := lw_at lw_m7 209 rfl
theorem q1690 : (Jvm.Cond.instanceMethod ({ cls := "BinderyDeskModel", name := "isShown", desc := "(III)Z" } : Jvm.MethodName)) ∈ lw_all := lw_g (lw_at lw_m7 210 rfl) rfl
theorem q1691 : (Jvm.Cond.code ({ cls := "BinderyDeskModel", name := "isShown", desc := "(III)Z" } : Jvm.MethodName) prog_15_method_17_code (5 : Nat) (Option.some Jvm.ClassFile.FieldType.boolean)) ∈ lw_all := lw_g (lw_at lw_m7 211 rfl) rfl
theorem q1692 : (Jvm.Cond.methodLink "BinderyDeskModel" (85 : Nat) ({ cls := "BinderyDeskModel", name := "contentOn", desc := "(III)I" } : Jvm.MethodName)) ∈ lw_all := lw_g (lw_at lw_m7 212 rfl) rfl
theorem q1693 : (Jvm.Cond.privateMethod ({ cls := "BinderyDeskModel", name := "contentOn", desc := "(III)I" } : Jvm.MethodName)) ∈ lw_tbl := lw_at lw_m7 213 rfl
theorem q1694 : (Jvm.Cond.instanceMethod ({ cls := "BinderyDeskModel", name := "contentOn", desc := "(III)I" } : Jvm.MethodName)) ∈ lw_all := lw_g (lw_at lw_m7 214 rfl) rfl
theorem q1695 : (Jvm.Cond.code ({ cls := "BinderyDeskModel", name := "contentOn", desc := "(III)I" } : Jvm.MethodName) prog_15_method_12_code (4 : Nat) (Option.some Jvm.ClassFile.FieldType.int)) ∈ lw_all := lw_g (lw_at lw_m7 215 rfl) rfl
theorem q1696 : (Jvm.Cond.methodLink "BinderyDeskModel" (81 : Nat) ({ cls := "BinderyDeskModel", name := "pageOn", desc := "(III)I" } : Jvm.MethodName)) ∈ lw_all := lw_g (lw_at lw_m7 216 rfl) rfl
theorem q1697 : (Jvm.Cond.privateMethod ({ cls := "BinderyDeskModel", name := "pageOn", desc := "(III)I" } : Jvm.MethodName)) ∈ lw_tbl := lw_at lw_m7 217 rfl
theorem q1698 : (Jvm.Cond.instanceMethod ({ cls := "BinderyDeskModel", name := "pageOn", desc := "(III)I" } : Jvm.MethodName)) ∈ lw_all := lw_g (lw_at lw_m7 218 rfl) rfl
theorem q1699 : (Jvm.Cond.code ({ cls := "BinderyDeskModel", name := "pageOn", desc := "(III)I" } : Jvm.MethodName) prog_15_method_11_code (5 : Nat) (Option.some Jvm.ClassFile.FieldType.int)) ∈ lw_all := lw_g (lw_at lw_m7 219 rfl) rfl
theorem q1700 : (Jvm.Cond.methodLink "BinderyDeskModel" (110 : Nat) ({ cls := "BinderyDeskModel", name := "voids", desc := "(II)I" } : Jvm.MethodName)) ∈ lw_all := lw_g (lw_at lw_m7 220 rfl) rfl
theorem q1701 : (Jvm.Cond.privateMethod ({ cls := "BinderyDeskModel", name := "voids", desc := "(II)I" } : Jvm.MethodName)) ∈ lw_tbl := lw_at lw_m7 221 rfl
theorem q1702 : (Jvm.Cond.instanceMethod ({ cls := "BinderyDeskModel", name := "voids", desc := "(II)I" } : Jvm.MethodName)) ∈ lw_all := lw_g (lw_at lw_m7 222 rfl) rfl
theorem q1703 : (Jvm.Cond.code ({ cls := "BinderyDeskModel", name := "voids", desc := "(II)I" } : Jvm.MethodName) prog_15_method_18_code (4 : Nat) (Option.some Jvm.ClassFile.FieldType.int)) ∈ lw_all := lw_g (lw_at lw_m7 223 rfl) rfl
theorem q1705 : (Jvm.Cond.instanceMethod ({ cls := "BinderyDeskModel", name := "state", desc := "(I)I" } : Jvm.MethodName)) ∈ lw_all := lw_g (lw_at lw_m7 225 rfl) rfl
theorem q1706 : (Jvm.Cond.selects "BinderyDeskModel" ({ cls := "BinderyDeskModel", name := "state", desc := "(I)I" } : Jvm.MethodName) ({ cls := "BinderyDeskModel", name := "state", desc := "(I)I" } : Jvm.MethodName)) ∈ lw_all := lw_g (lw_at lw_m7 226 rfl) rfl
theorem q1707 : (Jvm.Cond.code ({ cls := "BinderyDeskModel", name := "state", desc := "(I)I" } : Jvm.MethodName) prog_15_method_22_code (2 : Nat) (Option.some Jvm.ClassFile.FieldType.int)) ∈ lw_all := lw_g (lw_at lw_m7 227 rfl) rfl
theorem q1709 : (Jvm.Cond.instanceMethod ({ cls := "BinderyDeskModel", name := "addJob", desc := "(C)I" } : Jvm.MethodName)) ∈ lw_all := lw_g (lw_at lw_m7 229 rfl) rfl
theorem q1710 : (Jvm.Cond.selects "BinderyDeskModel" ({ cls := "BinderyDeskModel", name := "addJob", desc := "(C)I" } : Jvm.MethodName) ({ cls := "BinderyDeskModel", name := "addJob", desc := "(C)I" } : Jvm.MethodName)) ∈ lw_all := lw_g (lw_at lw_m7 230 rfl) rfl
theorem q1711 : (Jvm.Cond.code ({ cls := "BinderyDeskModel", name := "addJob", desc := "(C)I" } : Jvm.MethodName) prog_15_method_23_code (2 : Nat) (Option.some Jvm.ClassFile.FieldType.int)) ∈ lw_all := lw_g (lw_at lw_m7 231 rfl) rfl
theorem q1713 : (Jvm.Cond.instanceMethod ({ cls := "BinderyDeskModel", name := "addPage", desc := "(II)I" } : Jvm.MethodName)) ∈ lw_all := lw_g (lw_at lw_m7 233 rfl) rfl
theorem q1714 : (Jvm.Cond.selects "BinderyDeskModel" ({ cls := "BinderyDeskModel", name := "addPage", desc := "(II)I" } : Jvm.MethodName) ({ cls := "BinderyDeskModel", name := "addPage", desc := "(II)I" } : Jvm.MethodName)) ∈ lw_all := lw_g (lw_at lw_m7 234 rfl) rfl
theorem q1715 : (Jvm.Cond.code ({ cls := "BinderyDeskModel", name := "addPage", desc := "(II)I" } : Jvm.MethodName) prog_15_method_24_code (4 : Nat) (Option.some Jvm.ClassFile.FieldType.int)) ∈ lw_all := lw_g (lw_at lw_m7 235 rfl) rfl
theorem q1717 : (Jvm.Cond.instanceMethod ({ cls := "BinderyDeskModel", name := "pages", desc := "(I)I" } : Jvm.MethodName)) ∈ lw_all := lw_g (lw_at lw_m7 237 rfl) rfl
theorem q1718 : (Jvm.Cond.selects "BinderyDeskModel" ({ cls := "BinderyDeskModel", name := "pages", desc := "(I)I" } : Jvm.MethodName) ({ cls := "BinderyDeskModel", name := "pages", desc := "(I)I" } : Jvm.MethodName)) ∈ lw_all := lw_g (lw_at lw_m7 238 rfl) rfl
theorem q1719 : (Jvm.Cond.code ({ cls := "BinderyDeskModel", name := "pages", desc := "(I)I" } : Jvm.MethodName) prog_15_method_25_code (2 : Nat) (Option.some Jvm.ClassFile.FieldType.int)) ∈ lw_all := lw_g (lw_at lw_m7 239 rfl) rfl
theorem q1721 : (Jvm.Cond.instanceMethod ({ cls := "BinderyDeskModel", name := "sheets", desc := "(I)I" } : Jvm.MethodName)) ∈ lw_all := lw_g (lw_at lw_m8 1 rfl) rfl
theorem q1722 : (Jvm.Cond.selects "BinderyDeskModel" ({ cls := "BinderyDeskModel", name := "sheets", desc := "(I)I" } : Jvm.MethodName) ({ cls := "BinderyDeskModel", name := "sheets", desc := "(I)I" } : Jvm.MethodName)) ∈ lw_all := lw_g (lw_at lw_m8 2 rfl) rfl
theorem q1723 : (Jvm.Cond.code ({ cls := "BinderyDeskModel", name := "sheets", desc := "(I)I" } : Jvm.MethodName) prog_15_method_26_code (2 : Nat) (Option.some Jvm.ClassFile.FieldType.int)) ∈ lw_all := lw_g (lw_at lw_m8 3 rfl) rfl
theorem q1724 : (Jvm.Cond.methodLink "BinderyDeskModel" (75 : Nat) ({ cls := "BinderyDeskModel", name := "isJob", desc := "(I)Z" } : Jvm.MethodName)) ∈ lw_all := lw_g (lw_at lw_m8 4 rfl) rfl
theorem q1725 : (Jvm.Cond.privateMethod ({ cls := "BinderyDeskModel", name := "isJob", desc := "(I)Z" } : Jvm.MethodName)) ∈ lw_tbl := lw_at lw_m8 5 rfl
theorem q1726 : (Jvm.Cond.instanceMethod ({ cls := "BinderyDeskModel", name := "isJob", desc := "(I)Z" } : Jvm.MethodName)) ∈ lw_all := lw_g (lw_at lw_m8 6 rfl) rfl
theorem q1727 : (Jvm.Cond.code ({ cls := "BinderyDeskModel", name := "isJob", desc := "(I)Z" } : Jvm.MethodName) prog_15_method_9_code (2 : Nat) (Option.some Jvm.ClassFile.FieldType.boolean)) ∈ lw_all := lw_g (lw_at lw_m8 7 rfl) rfl
theorem q1729 : (Jvm.Cond.instanceMethod ({ cls := "BinderyDeskModel", name := "pageAt", desc := "(III)I" } : Jvm.MethodName)) ∈ lw_all := lw_g (lw_at lw_m8 9 rfl) rfl
theorem q1730 : (Jvm.Cond.selects "BinderyDeskModel" ({ cls := "BinderyDeskModel", name := "pageAt", desc := "(III)I" } : Jvm.MethodName) ({ cls := "BinderyDeskModel", name := "pageAt", desc := "(III)I" } : Jvm.MethodName)) ∈ lw_all := lw_g (lw_at lw_m8 10 rfl) rfl
theorem q1731 : (Jvm.Cond.code ({ cls := "BinderyDeskModel", name := "pageAt", desc := "(III)I" } : Jvm.MethodName) prog_15_method_27_code (4 : Nat) (Option.some Jvm.ClassFile.FieldType.int)) ∈ lw_all := lw_g (lw_at lw_m8 11 rfl) rfl
theorem q1732 : (Jvm.Cond.methodLink "BinderyDeskModel" (114 : Nat) ({ cls := "BinderyDeskModel", name := "isSheet", desc := "(II)Z" } : Jvm.MethodName)) ∈ lw_all := lw_g (lw_at lw_m8 12 rfl) rfl
theorem q1733 : (Jvm.Cond.privateMethod ({ cls := "BinderyDeskModel", name := "isSheet", desc := "(II)Z" } : Jvm.MethodName)) ∈ lw_tbl := lw_at lw_m8 13 rfl
theorem q1734 : (Jvm.Cond.instanceMethod ({ cls := "BinderyDeskModel", name := "isSheet", desc := "(II)Z" } : Jvm.MethodName)) ∈ lw_all := lw_g (lw_at lw_m8 14 rfl) rfl
theorem q1735 : (Jvm.Cond.code ({ cls := "BinderyDeskModel", name := "isSheet", desc := "(II)Z" } : Jvm.MethodName) prog_15_method_10_code (3 : Nat) (Option.some Jvm.ClassFile.FieldType.boolean)) ∈ lw_all := lw_g (lw_at lw_m8 15 rfl) rfl
theorem q1737 : (Jvm.Cond.instanceMethod ({ cls := "BinderyDeskModel", name := "sheetOf", desc := "(II)I" } : Jvm.MethodName)) ∈ lw_all := lw_g (lw_at lw_m8 17 rfl) rfl
theorem q1738 : (Jvm.Cond.selects "BinderyDeskModel" ({ cls := "BinderyDeskModel", name := "sheetOf", desc := "(II)I" } : Jvm.MethodName) ({ cls := "BinderyDeskModel", name := "sheetOf", desc := "(II)I" } : Jvm.MethodName)) ∈ lw_all := lw_g (lw_at lw_m8 18 rfl) rfl
theorem q1739 : (Jvm.Cond.code ({ cls := "BinderyDeskModel", name := "sheetOf", desc := "(II)I" } : Jvm.MethodName) prog_15_method_28_code (5 : Nat) (Option.some Jvm.ClassFile.FieldType.int)) ∈ lw_all := lw_g (lw_at lw_m8 19 rfl) rfl
theorem q1741 : (Jvm.Cond.instanceMethod ({ cls := "BinderyDeskModel", name := "print", desc := "(III)I" } : Jvm.MethodName)) ∈ lw_all := lw_g (lw_at lw_m8 21 rfl) rfl
theorem q1742 : (Jvm.Cond.selects "BinderyDeskModel" ({ cls := "BinderyDeskModel", name := "print", desc := "(III)I" } : Jvm.MethodName) ({ cls := "BinderyDeskModel", name := "print", desc := "(III)I" } : Jvm.MethodName)) ∈ lw_all := lw_g (lw_at lw_m8 22 rfl) rfl
theorem q1743 : (Jvm.Cond.code ({ cls := "BinderyDeskModel", name := "print", desc := "(III)I" } : Jvm.MethodName) prog_15_method_30_code (6 : Nat) (Option.some Jvm.ClassFile.FieldType.int)) ∈ lw_all := lw_g (lw_at lw_m8 23 rfl) rfl
theorem q1744 : (Jvm.Cond.methodLink "BinderyDeskModel" (131 : Nat) ({ cls := "BinderyDeskModel", name := "ready", desc := "(II)I" } : Jvm.MethodName)) ∈ lw_all := lw_g (lw_at lw_m8 24 rfl) rfl
theorem q1745 : (Jvm.Cond.privateMethod ({ cls := "BinderyDeskModel", name := "ready", desc := "(II)I" } : Jvm.MethodName)) ∈ lw_tbl := lw_at lw_m8 25 rfl
theorem q1746 : (Jvm.Cond.instanceMethod ({ cls := "BinderyDeskModel", name := "ready", desc := "(II)I" } : Jvm.MethodName)) ∈ lw_all := lw_g (lw_at lw_m8 26 rfl) rfl
theorem q1747 : (Jvm.Cond.code ({ cls := "BinderyDeskModel", name := "ready", desc := "(II)I" } : Jvm.MethodName) prog_15_method_29_code (3 : Nat) (Option.some Jvm.ClassFile.FieldType.int)) ∈ lw_all := lw_g (lw_at lw_m8 27 rfl) rfl
theorem q1748 : (Jvm.Cond.methodLink "BinderyDeskModel" (118 : Nat) ({ cls := "BinderyDeskModel", name := "plateOf", desc := "(IIZ)I" } : Jvm.MethodName)) ∈ lw_all := lw_g (lw_at lw_m8 28 rfl) rfl
theorem q1749 : (Jvm.Cond.privateMethod ({ cls := "BinderyDeskModel", name := "plateOf", desc := "(IIZ)I" } : Jvm.MethodName)) ∈ lw_tbl := lw_at lw_m8 29 rfl
theorem q1750 : (Jvm.Cond.instanceMethod ({ cls := "BinderyDeskModel", name := "plateOf", desc := "(IIZ)I" } : Jvm.MethodName)) ∈ lw_all := lw_g (lw_at lw_m8 30 rfl) rfl
theorem q1751 : (Jvm.Cond.code ({ cls := "BinderyDeskModel", name := "plateOf", desc := "(IIZ)I" } : Jvm.MethodName) prog_15_method_14_code (4 : Nat) (Option.some Jvm.ClassFile.FieldType.int)) ∈ lw_all := lw_g (lw_at lw_m8 31 rfl) rfl
theorem q1752 : (Jvm.Cond.methodLink "BinderyDeskModel" (88 : Nat) ({ cls := "BinderyDeskModel", name := "code", desc := "(I)I" } : Jvm.MethodName)) ∈ lw_all := lw_g (lw_at lw_m8 32 rfl) rfl
theorem q1753 : (Jvm.Cond.privateMethod ({ cls := "BinderyDeskModel", name := "code", desc := "(I)I" } : Jvm.MethodName)) ∈ lw_tbl := lw_at lw_m8 33 rfl
theorem q1754 : (Jvm.Cond.instanceMethod ({ cls := "BinderyDeskModel", name := "code", desc := "(I)I" } : Jvm.MethodName)) ∈ lw_all := lw_g (lw_at lw_m8 34 rfl) rfl
theorem q1755 : (Jvm.Cond.code ({ cls := "BinderyDeskModel", name := "code", desc := "(I)I" } : Jvm.MethodName) prog_15_method_13_code (2 : Nat) (Option.some Jvm.ClassFile.FieldType.int)) ∈ lw_all := lw_g (lw_at lw_m8 35 rfl) rfl
theorem q1756 : (Jvm.Cond.methodLink "BinderyDeskModel" (134 : Nat) ({ cls := "BinderyDeskModel", name := "makes", desc := "(I)V" } : Jvm.MethodName)) ∈ lw_all := lw_g (lw_at lw_m8 36 rfl) rfl
theorem q1757 : (Jvm.Cond.privateMethod ({ cls := "BinderyDeskModel", name := "makes", desc := "(I)V" } : Jvm.MethodName)) ∈ lw_tbl := lw_at lw_m8 37 rfl
theorem q1758 : (Jvm.Cond.instanceMethod ({ cls := "BinderyDeskModel", name := "makes", desc := "(I)V" } : Jvm.MethodName)) ∈ lw_all := lw_g (lw_at lw_m8 38 rfl) rfl
theorem q1759 : (Jvm.Cond.code ({ cls := "BinderyDeskModel", name := "makes", desc := "(I)V" } : Jvm.MethodName) prog_15_method_16_code (2 : Nat) (Option.none : Option Jvm.ClassFile.FieldType)) ∈ lw_all := lw_g (lw_at lw_m8 39 rfl) rfl
theorem q1760 : (Jvm.Cond.methodLink "BinderyDeskModel" (94 : Nat) ({ cls := "BinderyDeskModel", name := "isMade", desc := "(I)Z" } : Jvm.MethodName)) ∈ lw_all := lw_g (lw_at lw_m8 40 rfl) rfl
theorem q1761 : (Jvm.Cond.privateMethod ({ cls := "BinderyDeskModel", name := "isMade", desc := "(I)Z" } : Jvm.MethodName)) ∈ lw_tbl := lw_at lw_m8 41 rfl
theorem q1762 : (Jvm.Cond.instanceMethod ({ cls := "BinderyDeskModel", name := "isMade", desc := "(I)Z" } : Jvm.MethodName)) ∈ lw_all := lw_g (lw_at lw_m8 42 rfl) rfl
theorem q1763 : (Jvm.Cond.code ({ cls := "BinderyDeskModel", name := "isMade", desc := "(I)Z" } : Jvm.MethodName) prog_15_method_15_code (3 : Nat) (Option.some Jvm.ClassFile.FieldType.boolean)) ∈ lw_all := lw_g (lw_at lw_m8 43 rfl) rfl
theorem q1765 : (Jvm.Cond.instanceMethod ({ cls := "BinderyDeskModel", name := "makeready", desc := "(II)I" } : Jvm.MethodName)) ∈ lw_all := lw_g (lw_at lw_m8 45 rfl) rfl
theorem q1766 : (Jvm.Cond.selects "BinderyDeskModel" ({ cls := "BinderyDeskModel", name := "makeready", desc := "(II)I" } : Jvm.MethodName) ({ cls := "BinderyDeskModel", name := "makeready", desc := "(II)I" } : Jvm.MethodName)) ∈ lw_all := lw_g (lw_at lw_m8 46 rfl) rfl
theorem q1767 : (Jvm.Cond.code ({ cls := "BinderyDeskModel", name := "makeready", desc := "(II)I" } : Jvm.MethodName) prog_15_method_31_code (3 : Nat) (Option.some Jvm.ClassFile.FieldType.int)) ∈ lw_all := lw_g (lw_at lw_m8 47 rfl) rfl
theorem q1769 : (Jvm.Cond.instanceMethod ({ cls := "BinderyDeskModel", name := "leastMakeready", desc := "(I)I" } : Jvm.MethodName)) ∈ lw_all := lw_g (lw_at lw_m8 49 rfl) rfl
theorem q1770 : (Jvm.Cond.selects "BinderyDeskModel" ({ cls := "BinderyDeskModel", name := "leastMakeready", desc := "(I)I" } : Jvm.MethodName) ({ cls := "BinderyDeskModel", name := "leastMakeready", desc := "(I)I" } : Jvm.MethodName)) ∈ lw_all := lw_g (lw_at lw_m8 50 rfl) rfl
theorem q1771 : (Jvm.Cond.code ({ cls := "BinderyDeskModel", name := "leastMakeready", desc := "(I)I" } : Jvm.MethodName) prog_15_method_34_code (2 : Nat) (Option.some Jvm.ClassFile.FieldType.int)) ∈ lw_all := lw_g (lw_at lw_m8 51 rfl) rfl
theorem q1772 : (Jvm.Cond.methodLink "BinderyDeskModel" (153 : Nat) ({ cls := "BinderyDeskModel", name := "least", desc := "(I)I" } : Jvm.MethodName)) ∈ lw_all := lw_g (lw_at lw_m8 52 rfl) rfl
theorem q1773 : (Jvm.Cond.privateMethod ({ cls := "BinderyDeskModel", name := "least", desc := "(I)I" } : Jvm.MethodName)) ∈ lw_tbl := lw_at lw_m8 53 rfl
theorem q1774 : (Jvm.Cond.instanceMethod ({ cls := "BinderyDeskModel", name := "least", desc := "(I)I" } : Jvm.MethodName)) ∈ lw_all := lw_g (lw_at lw_m8 54 rfl) rfl
theorem q1775 : (Jvm.Cond.code ({ cls := "BinderyDeskModel", name := "least", desc := "(I)I" } : Jvm.MethodName) prog_15_method_33_code (8 : Nat) (Option.some Jvm.ClassFile.FieldType.int)) ∈ lw_all := lw_g (lw_at lw_m8 55 rfl) rfl
theorem q1776 : (Jvm.Cond.constant "BinderyDeskModel" (149 : Nat) (2147483647 : Int32)) ∈ lw_all := lw_g (lw_at lw_m8 56 rfl) rfl
theorem q1777 : (Jvm.Cond.methodLink "BinderyDeskModel" (150 : Nat) ({ cls := "BinderyDeskModel", name := "change", desc := "(II)I" } : Jvm.MethodName)) ∈ lw_all := lw_g (lw_at lw_m8 57 rfl) rfl
theorem q1778 : (Jvm.Cond.privateMethod ({ cls := "BinderyDeskModel", name := "change", desc := "(II)I" } : Jvm.MethodName)) ∈ lw_tbl := lw_at lw_m8 58 rfl
theorem q1779 : (Jvm.Cond.instanceMethod ({ cls := "BinderyDeskModel", name := "change", desc := "(II)I" } : Jvm.MethodName)) ∈ lw_all := lw_g (lw_at lw_m8 59 rfl) rfl
theorem q1780 : (Jvm.Cond.code ({ cls := "BinderyDeskModel", name := "change", desc := "(II)I" } : Jvm.MethodName) prog_15_method_32_code (3 : Nat) (Option.some Jvm.ClassFile.FieldType.int)) ∈ lw_all := lw_g (lw_at lw_m8 60 rfl) rfl
theorem q1782 : (Jvm.Cond.instanceMethod ({ cls := "BinderyDeskModel", name := "leastByTrying", desc := "(I)I" } : Jvm.MethodName)) ∈ lw_all := lw_g (lw_at lw_m8 62 rfl) rfl
theorem q1783 : (Jvm.Cond.selects "BinderyDeskModel" ({ cls := "BinderyDeskModel", name := "leastByTrying", desc := "(I)I" } : Jvm.MethodName) ({ cls := "BinderyDeskModel", name := "leastByTrying", desc := "(I)I" } : Jvm.MethodName)) ∈ lw_all := lw_g (lw_at lw_m8 63 rfl) rfl
theorem q1784 : (Jvm.Cond.code ({ cls := "BinderyDeskModel", name := "leastByTrying", desc := "(I)I" } : Jvm.MethodName) prog_15_method_35_code (2 : Nat) (Option.some Jvm.ClassFile.FieldType.int)) ∈ lw_all := lw_g (lw_at lw_m8 64 rfl) rfl
theorem q1786 : (Jvm.Cond.instanceMethod ({ cls := "BinderyDeskModel", name := "stock", desc := "(II)I" } : Jvm.MethodName)) ∈ lw_all := lw_g (lw_at lw_m8 66 rfl) rfl
theorem q1787 : (Jvm.Cond.selects "BinderyDeskModel" ({ cls := "BinderyDeskModel", name := "stock", desc := "(II)I" } : Jvm.MethodName) ({ cls := "BinderyDeskModel", name := "stock", desc := "(II)I" } : Jvm.MethodName)) ∈ lw_all := lw_g (lw_at lw_m8 67 rfl) rfl
theorem q1788 : (Jvm.Cond.code ({ cls := "BinderyDeskModel", name := "stock", desc := "(II)I" } : Jvm.MethodName) prog_15_method_36_code (3 : Nat) (Option.some Jvm.ClassFile.FieldType.int)) ∈ lw_all := lw_g (lw_at lw_m8 68 rfl) rfl
theorem q1790 : (Jvm.Cond.instanceMethod ({ cls := "BinderyDeskModel", name := "plates", desc := "()I" } : Jvm.MethodName)) ∈ lw_all := lw_g (lw_at lw_m8 70 rfl) rfl
theorem q1791 : (Jvm.Cond.selects "BinderyDeskModel" ({ cls := "BinderyDeskModel", name := "plates", desc := "()I" } : Jvm.MethodName) ({ cls := "BinderyDeskModel", name := "plates", desc := "()I" } : Jvm.MethodName)) ∈ lw_all := lw_g (lw_at lw_m8 71 rfl) rfl
theorem q1792 : (Jvm.Cond.code ({ cls := "BinderyDeskModel", name := "plates", desc := "()I" } : Jvm.MethodName) prog_15_method_37_code (1 : Nat) (Option.some Jvm.ClassFile.FieldType.int)) ∈ lw_all := lw_g (lw_at lw_m8 72 rfl) rfl
theorem q1794 : (Jvm.Cond.instanceMethod ({ cls := "BinderyDeskModel", name := "platesNeeded", desc := "(I)I" } : Jvm.MethodName)) ∈ lw_all := lw_g (lw_at lw_m8 74 rfl) rfl
theorem q1795 : (Jvm.Cond.selects "BinderyDeskModel" ({ cls := "BinderyDeskModel", name := "platesNeeded", desc := "(I)I" } : Jvm.MethodName) ({ cls := "BinderyDeskModel", name := "platesNeeded", desc := "(I)I" } : Jvm.MethodName)) ∈ lw_all := lw_g (lw_at lw_m8 75 rfl) rfl
theorem q1796 : (Jvm.Cond.code ({ cls := "BinderyDeskModel", name := "platesNeeded", desc := "(I)I" } : Jvm.MethodName) prog_15_method_38_code (4 : Nat) (Option.some Jvm.ClassFile.FieldType.int)) ∈ lw_all := lw_g (lw_at lw_m8 76 rfl) rfl
theorem q1798 : (Jvm.Cond.instanceMethod ({ cls := "BinderyDeskModel", name := "bind", desc := "(II)I" } : Jvm.MethodName)) ∈ lw_all := lw_g (lw_at lw_m8 78 rfl) rfl
theorem q1799 : (Jvm.Cond.selects "BinderyDeskModel" ({ cls := "BinderyDeskModel", name := "bind", desc := "(II)I" } : Jvm.MethodName) ({ cls := "BinderyDeskModel", name := "bind", desc := "(II)I" } : Jvm.MethodName)) ∈ lw_all := lw_g (lw_at lw_m8 79 rfl) rfl
theorem q1800 : (Jvm.Cond.code ({ cls := "BinderyDeskModel", name := "bind", desc := "(II)I" } : Jvm.MethodName) prog_15_method_40_code (4 : Nat) (Option.some Jvm.ClassFile.FieldType.int)) ∈ lw_all := lw_g (lw_at lw_m8 80 rfl) rfl
theorem q1801 : (Jvm.Cond.methodLink "BinderyDeskModel" (159 : Nat) ({ cls := "BinderyDeskModel", name := "missing", desc := "(II)I" } : Jvm.MethodName)) ∈ lw_all := lw_g (lw_at lw_m8 81 rfl) rfl
theorem q1802 : (Jvm.Cond.privateMethod ({ cls := "BinderyDeskModel", name := "missing", desc := "(II)I" } : Jvm.MethodName)) ∈ lw_tbl := lw_at lw_m8 82 rfl
theorem q1803 : (Jvm.Cond.instanceMethod ({ cls := "BinderyDeskModel", name := "missing", desc := "(II)I" } : Jvm.MethodName)) ∈ lw_all := lw_g (lw_at lw_m8 83 rfl) rfl
theorem q1804 : (Jvm.Cond.code ({ cls := "BinderyDeskModel", name := "missing", desc := "(II)I" } : Jvm.MethodName) prog_15_method_39_code (5 : Nat) (Option.some Jvm.ClassFile.FieldType.int)) ∈ lw_all := lw_g (lw_at lw_m8 84 rfl) rfl
theorem q1806 : (Jvm.Cond.instanceMethod ({ cls := "BinderyDeskModel", name := "lacks", desc := "(II)I" } : Jvm.MethodName)) ∈ lw_all := lw_g (lw_at lw_m8 86 rfl) rfl
theorem q1807 : (Jvm.Cond.selects "BinderyDeskModel" ({ cls := "BinderyDeskModel", name := "lacks", desc := "(II)I" } : Jvm.MethodName) ({ cls := "BinderyDeskModel", name := "lacks", desc := "(II)I" } : Jvm.MethodName)) ∈ lw_all := lw_g (lw_at lw_m8 87 rfl) rfl
theorem q1808 : (Jvm.Cond.code ({ cls := "BinderyDeskModel", name := "lacks", desc := "(II)I" } : Jvm.MethodName) prog_15_method_41_code (3 : Nat) (Option.some Jvm.ClassFile.FieldType.int)) ∈ lw_all := lw_g (lw_at lw_m8 88 rfl) rfl
theorem q1810 : (Jvm.Cond.instanceMethod ({ cls := "BinderyDeskModel", name := "lots", desc := "()I" } : Jvm.MethodName)) ∈ lw_all := lw_g (lw_at lw_m8 90 rfl) rfl
theorem q1811 : (Jvm.Cond.selects "BinderyDeskModel" ({ cls := "BinderyDeskModel", name := "lots", desc := "()I" } : Jvm.MethodName) ({ cls := "BinderyDeskModel", name := "lots", desc := "()I" } : Jvm.MethodName)) ∈ lw_all := lw_g (lw_at lw_m8 91 rfl) rfl
theorem q1812 : (Jvm.Cond.code ({ cls := "BinderyDeskModel", name := "lots", desc := "()I" } : Jvm.MethodName) prog_15_method_42_code (1 : Nat) (Option.some Jvm.ClassFile.FieldType.int)) ∈ lw_all := lw_g (lw_at lw_m8 92 rfl) rfl
theorem q1814 : (Jvm.Cond.instanceMethod ({ cls := "BinderyDeskModel", name := "copies", desc := "(I)I" } : Jvm.MethodName)) ∈ lw_all := lw_g (lw_at lw_m8 94 rfl) rfl
theorem q1815 : (Jvm.Cond.selects "BinderyDeskModel" ({ cls := "BinderyDeskModel", name := "copies", desc := "(I)I" } : Jvm.MethodName) ({ cls := "BinderyDeskModel", name := "copies", desc := "(I)I" } : Jvm.MethodName)) ∈ lw_all := lw_g (lw_at lw_m8 95 rfl) rfl
theorem q1816 : (Jvm.Cond.code ({ cls := "BinderyDeskModel", name := "copies", desc := "(I)I" } : Jvm.MethodName) prog_15_method_43_code (2 : Nat) (Option.some Jvm.ClassFile.FieldType.int)) ∈ lw_all := lw_g (lw_at lw_m8 96 rfl) rfl
theorem q1818 : (Jvm.Cond.instanceMethod ({ cls := "BinderyDeskModel", name := "stateIn", desc := "(II)I" } : Jvm.MethodName)) ∈ lw_all := lw_g (lw_at lw_m8 98 rfl) rfl
theorem q1819 : (Jvm.Cond.selects "BinderyDeskModel" ({ cls := "BinderyDeskModel", name := "stateIn", desc := "(II)I" } : Jvm.MethodName) ({ cls := "BinderyDeskModel", name := "stateIn", desc := "(II)I" } : Jvm.MethodName)) ∈ lw_all := lw_g (lw_at lw_m8 99 rfl) rfl
theorem q1820 : (Jvm.Cond.code ({ cls := "BinderyDeskModel", name := "stateIn", desc := "(II)I" } : Jvm.MethodName) prog_15_method_44_code (3 : Nat) (Option.some Jvm.ClassFile.FieldType.int)) ∈ lw_all := lw_g (lw_at lw_m8 100 rfl) rfl
theorem q1822 : (Jvm.Cond.instanceMethod ({ cls := "BinderyDeskModel", name := "stateByReplay", desc := "(II)I" } : Jvm.MethodName)) ∈ lw_all := lw_g (lw_at lw_m8 102 rfl) rfl
theorem q1823 : (Jvm.Cond.selects "BinderyDeskModel" ({ cls := "BinderyDeskModel", name := "stateByReplay", desc := "(II)I" } : Jvm.MethodName) ({ cls := "BinderyDeskModel", name := "stateByReplay", desc := "(II)I" } : Jvm.MethodName)) ∈ lw_all := lw_g (lw_at lw_m8 103 rfl) rfl
theorem q1824 : (Jvm.Cond.code ({ cls := "BinderyDeskModel", name := "stateByReplay", desc := "(II)I" } : Jvm.MethodName) prog_15_method_45_code (3 : Nat) (Option.some Jvm.ClassFile.FieldType.int)) ∈ lw_all := lw_g (lw_at lw_m8 104 rfl) rfl
theorem q1825 : (Jvm.Cond.methodLink "BinderyDeskModel" (162 : Nat) ({ cls := "BinderyDeskModel", name := "stateIn", desc := "(II)I" } : Jvm.MethodName)) ∈ lw_all := lw_g (lw_at lw_m8 105 rfl) rfl
theorem q1827 : (Jvm.Cond.instanceMethod ({ cls := "BinderyDeskModel", name := "outdated", desc := "(I)I" } : Jvm.MethodName)) ∈ lw_all := lw_g (lw_at lw_m8 107 rfl) rfl
theorem q1828 : (Jvm.Cond.selects "BinderyDeskModel" ({ cls := "BinderyDeskModel", name := "outdated", desc := "(I)I" } : Jvm.MethodName) ({ cls := "BinderyDeskModel", name := "outdated", desc := "(I)I" } : Jvm.MethodName)) ∈ lw_all := lw_g (lw_at lw_m8 108 rfl) rfl
theorem q1829 : (Jvm.Cond.code ({ cls := "BinderyDeskModel", name := "outdated", desc := "(I)I" } : Jvm.MethodName) prog_15_method_46_code (6 : Nat) (Option.some Jvm.ClassFile.FieldType.int)) ∈ lw_all := lw_g (lw_at lw_m8 109 rfl) rfl
theorem q1831 : (Jvm.Cond.instanceMethod ({ cls := "BinderyDeskModel", name := "waste", desc := "()J" } : Jvm.MethodName)) ∈ lw_all := lw_g (lw_at lw_m8 111 rfl) rfl
theorem q1832 : (Jvm.Cond.selects "BinderyDeskModel" ({ cls := "BinderyDeskModel", name := "waste", desc := "()J" } : Jvm.MethodName) ({ cls := "BinderyDeskModel", name := "waste", desc := "()J" } : Jvm.MethodName)) ∈ lw_all := lw_g (lw_at lw_m8 112 rfl) rfl
theorem q1833 : (Jvm.Cond.code ({ cls := "BinderyDeskModel", name := "waste", desc := "()J" } : Jvm.MethodName) prog_15_method_47_code (1 : Nat) (Option.some Jvm.ClassFile.FieldType.long)) ∈ lw_all := lw_g (lw_at lw_m8 113 rfl) rfl
theorem q1835 : (Jvm.Cond.instanceMethod ({ cls := "BinderyDeskModel", name := "wasteShare", desc := "()F" } : Jvm.MethodName)) ∈ lw_all := lw_g (lw_at lw_m8 115 rfl) rfl
theorem q1836 : (Jvm.Cond.selects "BinderyDeskModel" ({ cls := "BinderyDeskModel", name := "wasteShare", desc := "()F" } : Jvm.MethodName) ({ cls := "BinderyDeskModel", name := "wasteShare", desc := "()F" } : Jvm.MethodName)) ∈ lw_all := lw_g (lw_at lw_m8 116 rfl) rfl
theorem q1837 : (Jvm.Cond.code ({ cls := "BinderyDeskModel", name := "wasteShare", desc := "()F" } : Jvm.MethodName) prog_15_method_48_code (1 : Nat) (Option.some Jvm.ClassFile.FieldType.float)) ∈ lw_all := lw_g (lw_at lw_m8 117 rfl) rfl
theorem q1839 : (Jvm.Cond.instanceMethod ({ cls := "BinderyDeskModel", name := "meanMakeready", desc := "()D" } : Jvm.MethodName)) ∈ lw_all := lw_g (lw_at lw_m8 119 rfl) rfl
theorem q1840 : (Jvm.Cond.selects "BinderyDeskModel" ({ cls := "BinderyDeskModel", name := "meanMakeready", desc := "()D" } : Jvm.MethodName) ({ cls := "BinderyDeskModel", name := "meanMakeready", desc := "()D" } : Jvm.MethodName)) ∈ lw_all := lw_g (lw_at lw_m8 120 rfl) rfl
theorem q1841 : (Jvm.Cond.code ({ cls := "BinderyDeskModel", name := "meanMakeready", desc := "()D" } : Jvm.MethodName) prog_15_method_49_code (1 : Nat) (Option.some Jvm.ClassFile.FieldType.double)) ∈ lw_all := lw_g (lw_at lw_m8 121 rfl) rfl
theorem q1868 : (Jvm.Cond.castable "BinderyDeskModel" "java/lang/Object") ∈ lw_tbl := lw_at lw_m8 148 rfl
theorem in_X3 : ∀ w ∈ wsX30, w ∈ lw_all := lw_in wsX30 [1595, 1597, 1599, 1601, 1603, 1605, 1607, 1609, 1611, 1613, 1615, 1617, 1619, 1621, 1623, 1625, 1627, 1629, 1631, 1633, 1635, 1637, 1639, 1641, 1643, 1645] (by decide +kernel) (by decide +kernel)
