/-! BinderyDesk$Counter -/
set_option maxRecDepth 100000
def RX2 : String := "BinderyDesk$Counter"
def TX2 : u_T := fun k => match k with
  | _ => ("BinderyDesk$Counter", "count", "J", false)
def tyX2 : Nat → FieldType := fun k => match k with
  | _ => .long
abbrev wsX20 : List Cond := u_ws RX2 TX2 1
theorem nmX2 : ∀ a, a < 1 → ∀ b, b < 1 → a ≠ b → (TX2 a).2.1 ≠ (TX2 b).2.1 := by decide +kernel
theorem tyX2_ok : ∀ k, k < 1 → parseFieldDescriptor (TX2 k).2.2.1 = some (tyX2 k) := by decide +kernel
abbrev cX2_init : ByteArray := prog_8_method_1_code
def yX2_init : MethodName := ⟨RX2, "<init>", "()V"⟩
theorem dX2_init_0 : decode cX2_init 0 = .ok (.aload_n 0, 1) := by decide +kernel
theorem dX2_init_1 : decode cX2_init 1 = .ok (.invokespecial 1, 3) := by decide +kernel
theorem dX2_init_4 : decode cX2_init 4 = .ok (.return_, 1) := by decide +kernel
abbrev cX2_count : ByteArray := prog_8_method_3_code
def yX2_count : MethodName := ⟨RX2, "count", "()J"⟩
theorem dX2_count_0 : decode cX2_count 0 = .ok (.aload_n 0, 1) := by decide +kernel
theorem dX2_count_1 : decode cX2_count 1 = .ok (.getfield 7, 3) := by decide +kernel
theorem dX2_count_4 : decode cX2_count 4 = .ok (.lreturn, 1) := by decide +kernel
abbrev cX2_add : ByteArray := prog_8_method_2_code
def yX2_add : MethodName := ⟨RX2, "add", "(I)V"⟩
def dkwX2_add_0 : List UInt8 := [42, 89, 180, 0, 7, 27, 133, 97, 181, 0, 7, 177]
abbrev dktX2_add_0 : List UInt8 := dkwX2_add_0 ++ []
theorem dksX2_add_0 : cX2_add.data.toList.drop 0 = dktX2_add_0 := by decide +kernel
theorem dX2_add_0 : decode cX2_add 0 = .ok (.aload_n 0, 1) := dk_42 (dk_at dksX2_add_0 0 rfl rfl)
theorem dX2_add_1 : decode cX2_add 1 = .ok (.dup, 1) := dk_89 (dk_at dksX2_add_0 1 rfl rfl)
theorem dX2_add_2 : decode cX2_add 2 = .ok (.getfield 7, 3) := dk_180 0 7 (dk_at dksX2_add_0 2 rfl rfl)
theorem dX2_add_5 : decode cX2_add 5 = .ok (.iload_n 1, 1) := dk_27 (dk_at dksX2_add_0 5 rfl rfl)
theorem dX2_add_6 : decode cX2_add 6 = .ok (.i2l, 1) := dk_133 (dk_at dksX2_add_0 6 rfl rfl)
theorem dX2_add_7 : decode cX2_add 7 = .ok (.ladd, 1) := dk_97 (dk_at dksX2_add_0 7 rfl rfl)
theorem dX2_add_8 : decode cX2_add 8 = .ok (.putfield 7, 3) := dk_181 0 7 (dk_at dksX2_add_0 8 rfl rfl)
theorem dX2_add_11 : decode cX2_add 11 = .ok (.return_, 1) := dk_177 (dk_at dksX2_add_0 11 rfl rfl)
theorem q49 : (Jvm.Cond.initialized "BinderyDesk$Counter") ∈ lw_all := lw_g (lw_at lw_m1 9 rfl) rfl
theorem q173 : (Jvm.Cond.instantiable "BinderyDesk$Counter" (1 : Nat)) ∈ lw_all := lw_g (lw_at lw_m1 133 rfl) rfl
theorem q175 : (Jvm.Cond.instanceMethod ({ cls := "BinderyDesk$Counter", name := "<init>", desc := "()V" } : Jvm.MethodName)) ∈ lw_all := lw_g (lw_at lw_m1 135 rfl) rfl
theorem q176 : (Jvm.Cond.code ({ cls := "BinderyDesk$Counter", name := "<init>", desc := "()V" } : Jvm.MethodName) prog_8_method_1_code (1 : Nat) (Option.none : Option Jvm.ClassFile.FieldType)) ∈ lw_all := lw_g (lw_at lw_m1 136 rfl) rfl
theorem q177 : (Jvm.Cond.methodLink "BinderyDesk$Counter" (1 : Nat) ({ cls := "java/lang/Object", name := "<init>", desc := "()V" } : Jvm.MethodName)) ∈ lw_all := lw_g (lw_at lw_m1 137 rfl) rfl
theorem q178 : (Jvm.Cond.fieldLink "BinderyDesk$Counter" (7 : Nat) "BinderyDesk$Counter" "count" "J") ∈ lw_all := lw_g (lw_at lw_m1 138 rfl) rfl
theorem q179 : (Jvm.Cond.lays "BinderyDesk$Counter" "BinderyDesk$Counter" "count" "J") ∈ lw_all := lw_g (lw_at lw_m1 139 rfl) rfl
theorem q180 : (Jvm.Cond.soleField "BinderyDesk$Counter" "count") ∈ lw_all := lw_g (lw_at lw_m1 140 rfl) rfl
theorem q181 : (Jvm.Cond.superclass "BinderyDesk$Counter" "java/lang/Object") ∈ lw_all := lw_g (lw_at lw_m1 141 rfl) rfl
theorem q253 : (Jvm.Cond.instanceMethod ({ cls := "BinderyDesk$Counter", name := "count", desc := "()J" } : Jvm.MethodName)) ∈ lw_all := lw_g (lw_at lw_m1 213 rfl) rfl
theorem q254 : (Jvm.Cond.selects "BinderyDesk$Counter" ({ cls := "BinderyDesk$Counter", name := "count", desc := "()J" } : Jvm.MethodName) ({ cls := "BinderyDesk$Counter", name := "count", desc := "()J" } : Jvm.MethodName)) ∈ lw_all := lw_g (lw_at lw_m1 214 rfl) rfl
theorem q255 : (Jvm.Cond.sameMethod "BinderyDesk$Counter" "BinderyDesk$Counter" "count" "()J") ∈ lw_all := lw_g (lw_at lw_m1 215 rfl) rfl
theorem q257 : (Jvm.Cond.code ({ cls := "BinderyDesk$Counter", name := "count", desc := "()J" } : Jvm.MethodName) prog_8_method_3_code (1 : Nat) (Option.some Jvm.ClassFile.FieldType.long)) ∈ lw_all := lw_g (lw_at lw_m1 217 rfl) rfl
theorem q400 : (Jvm.Cond.selects "BinderyDesk$Counter" ({ cls := "java/lang/Object", name := "getClass", desc := "()Ljava/lang/Class;" } : Jvm.MethodName) ({ cls := "java/lang/Object", name := "getClass", desc := "()Ljava/lang/Class;" } : Jvm.MethodName)) ∈ lw_all := lw_g (lw_at lw_m2 120 rfl) rfl
theorem q687 : (Jvm.Cond.declares ({ cls := "BinderyDesk$Counter", name := "count", desc := "()J" } : Jvm.MethodName)) ∈ lw_tbl := lw_at lw_m3 167 rfl
theorem q695 : (Jvm.Cond.declares ({ cls := "BinderyDesk$Counter", name := "add", desc := "(I)V" } : Jvm.MethodName)) ∈ lw_tbl := lw_at lw_m3 175 rfl
theorem q698 : (Jvm.Cond.instanceMethod ({ cls := "BinderyDesk$Counter", name := "add", desc := "(I)V" } : Jvm.MethodName)) ∈ lw_all := lw_g (lw_at lw_m3 178 rfl) rfl
theorem q699 : (Jvm.Cond.code ({ cls := "BinderyDesk$Counter", name := "add", desc := "(I)V" } : Jvm.MethodName) prog_8_method_2_code (2 : Nat) (Option.none : Option Jvm.ClassFile.FieldType)) ∈ lw_all := lw_g (lw_at lw_m3 179 rfl) rfl
theorem q1332 : (Jvm.Cond.selects "BinderyDesk$Counter" ({ cls := "java/lang/Object", name := "equals", desc := "(Ljava/lang/Object;)Z" } : Jvm.MethodName) ({ cls := "java/lang/Object", name := "equals", desc := "(Ljava/lang/Object;)Z" } : Jvm.MethodName)) ∈ lw_all := lw_g (lw_at lw_m6 92 rfl) rfl
theorem q1845 : (Jvm.Cond.sameMethod "BinderyDesk$Counter" "BinderyDesk$Counter" "add" "(I)V") ∈ lw_all := lw_g (lw_at lw_m8 125 rfl) rfl
theorem q1846 : (Jvm.Cond.selects "BinderyDesk$Counter" ({ cls := "BinderyDesk$Counter", name := "add", desc := "(I)V" } : Jvm.MethodName) ({ cls := "BinderyDesk$Counter", name := "add", desc := "(I)V" } : Jvm.MethodName)) ∈ lw_all := lw_g (lw_at lw_m8 126 rfl) rfl
theorem q1867 : (Jvm.Cond.castable "BinderyDesk$Counter" "java/lang/Object") ∈ lw_tbl := lw_at lw_m8 147 rfl
theorem in_X2 : ∀ w ∈ wsX20, w ∈ lw_all := lw_in wsX20 [179] (by decide +kernel) (by decide +kernel)

/-! BinderyDesk$Content -/
set_option maxRecDepth 100000
def RX4 : String := "BinderyDesk$Content"
def TX4 : u_T := fun k => match k with
  | 0 => ("BinderyDesk$Content", "number", "I", true)
  | 1 => ("BinderyDesk$Content", "state", "I", false)
  | _ => ("BinderyDesk$Content", "isApproved", "Z", false)
def tyX4 : Nat → FieldType := fun k => match k with
  | 0 => .int
  | 1 => .int
  | _ => .boolean
abbrev wsX40 : List Cond := u_ws RX4 TX4 3
theorem nmX4 : ∀ a, a < 3 → ∀ b, b < 3 → a ≠ b → (TX4 a).2.1 ≠ (TX4 b).2.1 := by decide +kernel
theorem tyX4_ok : ∀ k, k < 3 → parseFieldDescriptor (TX4 k).2.2.1 = some (tyX4 k) := by decide +kernel
abbrev cX4_init : ByteArray := prog_6_method_1_code
def yX4_init : MethodName := ⟨RX4, "<init>", "(I)V"⟩
def dkwX4_init_0 : List UInt8 := [42, 183, 0, 3, 42, 27, 181, 0, 9, 177]
abbrev dktX4_init_0 : List UInt8 := dkwX4_init_0 ++ []
theorem dksX4_init_0 : cX4_init.data.toList.drop 0 = dktX4_init_0 := by decide +kernel
theorem dX4_init_0 : decode cX4_init 0 = .ok (.aload_n 0, 1) := dk_42 (dk_at dksX4_init_0 0 rfl rfl)
theorem dX4_init_1 : decode cX4_init 1 = .ok (.invokespecial 3, 3) := dk_183 0 3 (dk_at dksX4_init_0 1 rfl rfl)
theorem dX4_init_4 : decode cX4_init 4 = .ok (.aload_n 0, 1) := dk_42 (dk_at dksX4_init_0 4 rfl rfl)
theorem dX4_init_5 : decode cX4_init 5 = .ok (.iload_n 1, 1) := dk_27 (dk_at dksX4_init_0 5 rfl rfl)
theorem dX4_init_6 : decode cX4_init 6 = .ok (.putfield 9, 3) := dk_181 0 9 (dk_at dksX4_init_0 6 rfl rfl)
theorem dX4_init_9 : decode cX4_init 9 = .ok (.return_, 1) := dk_177 (dk_at dksX4_init_0 9 rfl rfl)
abbrev cX4_sign : ByteArray := prog_6_method_2_code
def yX4_sign : MethodName := ⟨RX4, "sign", "()I"⟩
def dkwX4_sign_0 : List UInt8 := [16, 100, 42, 180, 0, 9, 104, 42, 180, 0, 15, 96, 172]
abbrev dktX4_sign_0 : List UInt8 := dkwX4_sign_0 ++ []
theorem dksX4_sign_0 : cX4_sign.data.toList.drop 0 = dktX4_sign_0 := by decide +kernel
theorem dX4_sign_0 : decode cX4_sign 0 = .ok (.bipush 100, 2) := dk_16 100 (dk_at dksX4_sign_0 0 rfl rfl)
theorem dX4_sign_2 : decode cX4_sign 2 = .ok (.aload_n 0, 1) := dk_42 (dk_at dksX4_sign_0 2 rfl rfl)
theorem dX4_sign_3 : decode cX4_sign 3 = .ok (.getfield 9, 3) := dk_180 0 9 (dk_at dksX4_sign_0 3 rfl rfl)
theorem dX4_sign_6 : decode cX4_sign 6 = .ok (.imul, 1) := dk_104 (dk_at dksX4_sign_0 6 rfl rfl)
theorem dX4_sign_7 : decode cX4_sign 7 = .ok (.aload_n 0, 1) := dk_42 (dk_at dksX4_sign_0 7 rfl rfl)
theorem dX4_sign_8 : decode cX4_sign 8 = .ok (.getfield 15, 3) := dk_180 0 15 (dk_at dksX4_sign_0 8 rfl rfl)
theorem dX4_sign_11 : decode cX4_sign 11 = .ok (.iadd, 1) := dk_96 (dk_at dksX4_sign_0 11 rfl rfl)
theorem dX4_sign_12 : decode cX4_sign 12 = .ok (.ireturn, 1) := dk_172 (dk_at dksX4_sign_0 12 rfl rfl)
theorem q55 : (Jvm.Cond.initialized "BinderyDesk$Content") ∈ lw_all := lw_g (lw_at lw_m1 15 rfl) rfl
theorem q339 : (Jvm.Cond.instantiable "BinderyDesk$Content" (3 : Nat)) ∈ lw_all := lw_g (lw_at lw_m2 59 rfl) rfl
theorem q341 : (Jvm.Cond.instanceMethod ({ cls := "BinderyDesk$Content", name := "<init>", desc := "(I)V" } : Jvm.MethodName)) ∈ lw_all := lw_g (lw_at lw_m2 61 rfl) rfl
theorem q342 : (Jvm.Cond.code ({ cls := "BinderyDesk$Content", name := "<init>", desc := "(I)V" } : Jvm.MethodName) prog_6_method_1_code (2 : Nat) (Option.none : Option Jvm.ClassFile.FieldType)) ∈ lw_all := lw_g (lw_at lw_m2 62 rfl) rfl
theorem q343 : (Jvm.Cond.methodLink "BinderyDesk$Content" (3 : Nat) ({ cls := "java/lang/Object", name := "<init>", desc := "()V" } : Jvm.MethodName)) ∈ lw_all := lw_g (lw_at lw_m2 63 rfl) rfl
theorem q344 : (Jvm.Cond.fieldLink "BinderyDesk$Content" (9 : Nat) "BinderyDesk$Content" "number" "I") ∈ lw_all := lw_g (lw_at lw_m2 64 rfl) rfl
theorem q346 : (Jvm.Cond.fieldLink "BinderyDesk$Content" (15 : Nat) "BinderyDesk$Content" "state" "I") ∈ lw_all := lw_g (lw_at lw_m2 66 rfl) rfl
theorem q350 : (Jvm.Cond.laysFinal "BinderyDesk$Content" "BinderyDesk$Content" "number" "I") ∈ lw_all := lw_g (lw_at lw_m2 70 rfl) rfl
theorem q351 : (Jvm.Cond.soleField "BinderyDesk$Content" "number") ∈ lw_all := lw_g (lw_at lw_m2 71 rfl) rfl
theorem q352 : (Jvm.Cond.lays "BinderyDesk$Content" "BinderyDesk$Content" "state" "I") ∈ lw_all := lw_g (lw_at lw_m2 72 rfl) rfl
theorem q353 : (Jvm.Cond.soleField "BinderyDesk$Content" "state") ∈ lw_all := lw_g (lw_at lw_m2 73 rfl) rfl
theorem q354 : (Jvm.Cond.lays "BinderyDesk$Content" "BinderyDesk$Content" "isApproved" "Z") ∈ lw_all := lw_g (lw_at lw_m2 74 rfl) rfl
theorem q355 : (Jvm.Cond.soleField "BinderyDesk$Content" "isApproved") ∈ lw_all := lw_g (lw_at lw_m2 75 rfl) rfl
theorem q356 : (Jvm.Cond.superclass "BinderyDesk$Content" "java/lang/Object") ∈ lw_all := lw_g (lw_at lw_m2 76 rfl) rfl
theorem q398 : (Jvm.Cond.selects "BinderyDesk$Content" ({ cls := "java/lang/Object", name := "getClass", desc := "()Ljava/lang/Class;" } : Jvm.MethodName) ({ cls := "java/lang/Object", name := "getClass", desc := "()Ljava/lang/Class;" } : Jvm.MethodName)) ∈ lw_all := lw_g (lw_at lw_m2 118 rfl) rfl
theorem q886 : (Jvm.Cond.instanceMethod ({ cls := "BinderyDesk$Content", name := "sign", desc := "()I" } : Jvm.MethodName)) ∈ lw_all := lw_g (lw_at lw_m4 126 rfl) rfl
theorem q887 : (Jvm.Cond.selects "BinderyDesk$Content" ({ cls := "BinderyDesk$Content", name := "sign", desc := "()I" } : Jvm.MethodName) ({ cls := "BinderyDesk$Content", name := "sign", desc := "()I" } : Jvm.MethodName)) ∈ lw_all := lw_g (lw_at lw_m4 127 rfl) rfl
theorem q888 : (Jvm.Cond.code ({ cls := "BinderyDesk$Content", name := "sign", desc := "()I" } : Jvm.MethodName) prog_6_method_2_code (1 : Nat) (Option.some Jvm.ClassFile.FieldType.int)) ∈ lw_all := lw_g (lw_at lw_m4 128 rfl) rfl
theorem q1330 : (Jvm.Cond.selects "BinderyDesk$Content" ({ cls := "java/lang/Object", name := "equals", desc := "(Ljava/lang/Object;)Z" } : Jvm.MethodName) ({ cls := "java/lang/Object", name := "equals", desc := "(Ljava/lang/Object;)Z" } : Jvm.MethodName)) ∈ lw_all := lw_g (lw_at lw_m6 90 rfl) rfl
theorem q1870 : (Jvm.Cond.castable "BinderyDesk$Content" "java/lang/Object") ∈ lw_tbl := lw_at lw_m8 150 rfl
theorem in_X4 : ∀ w ∈ wsX40, w ∈ lw_all := lw_in wsX40 [350, 352, 354] (by decide +kernel) (by decide +kernel)

/-! BinderyDesk$Correction -/
set_option maxRecDepth 100000
def RX5 : String := "BinderyDesk$Correction"
def TX5 : u_T := fun k => match k with
  | _ => ("BinderyDesk$Correction", "content", "LBinderyDesk$Content;", true)
def tyX5 : Nat → FieldType := fun k => match k with
  | _ => .object "BinderyDesk$Content"
abbrev wsX50 : List Cond := u_ws RX5 TX5 1
theorem nmX5 : ∀ a, a < 1 → ∀ b, b < 1 → a ≠ b → (TX5 a).2.1 ≠ (TX5 b).2.1 := by decide +kernel
theorem tyX5_ok : ∀ k, k < 1 → parseFieldDescriptor (TX5 k).2.2.1 = some (tyX5 k) := by decide +kernel
abbrev cX5_init : ByteArray := prog_7_method_1_code
def yX5_init : MethodName := ⟨RX5, "<init>", "(LBinderyDesk$Content;)V"⟩
def dkwX5_init_0 : List UInt8 := [42, 183, 0, 1, 42, 43, 181, 0, 7, 177]
abbrev dktX5_init_0 : List UInt8 := dkwX5_init_0 ++ []
theorem dksX5_init_0 : cX5_init.data.toList.drop 0 = dktX5_init_0 := by decide +kernel
theorem dX5_init_0 : decode cX5_init 0 = .ok (.aload_n 0, 1) := dk_42 (dk_at dksX5_init_0 0 rfl rfl)
theorem dX5_init_1 : decode cX5_init 1 = .ok (.invokespecial 1, 3) := dk_183 0 1 (dk_at dksX5_init_0 1 rfl rfl)
theorem dX5_init_4 : decode cX5_init 4 = .ok (.aload_n 0, 1) := dk_42 (dk_at dksX5_init_0 4 rfl rfl)
theorem dX5_init_5 : decode cX5_init 5 = .ok (.aload_n 1, 1) := dk_43 (dk_at dksX5_init_0 5 rfl rfl)
theorem dX5_init_6 : decode cX5_init 6 = .ok (.putfield 7, 3) := dk_181 0 7 (dk_at dksX5_init_0 6 rfl rfl)
theorem dX5_init_9 : decode cX5_init 9 = .ok (.return_, 1) := dk_177 (dk_at dksX5_init_0 9 rfl rfl)
theorem q65 : (Jvm.Cond.initialized "BinderyDesk$Correction") ∈ lw_all := lw_g (lw_at lw_m1 25 rfl) rfl
theorem q399 : (Jvm.Cond.selects "BinderyDesk$Correction" ({ cls := "java/lang/Object", name := "getClass", desc := "()Ljava/lang/Class;" } : Jvm.MethodName) ({ cls := "java/lang/Object", name := "getClass", desc := "()Ljava/lang/Class;" } : Jvm.MethodName)) ∈ lw_all := lw_g (lw_at lw_m2 119 rfl) rfl
theorem q525 : (Jvm.Cond.instantiable "BinderyDesk$Correction" (1 : Nat)) ∈ lw_all := lw_g (lw_at lw_m3 5 rfl) rfl
theorem q527 : (Jvm.Cond.instanceMethod ({ cls := "BinderyDesk$Correction", name := "<init>", desc := "(LBinderyDesk$Content;)V" } : Jvm.MethodName)) ∈ lw_all := lw_g (lw_at lw_m3 7 rfl) rfl
theorem q528 : (Jvm.Cond.code ({ cls := "BinderyDesk$Correction", name := "<init>", desc := "(LBinderyDesk$Content;)V" } : Jvm.MethodName) prog_7_method_1_code (2 : Nat) (Option.none : Option Jvm.ClassFile.FieldType)) ∈ lw_all := lw_g (lw_at lw_m3 8 rfl) rfl
theorem q529 : (Jvm.Cond.methodLink "BinderyDesk$Correction" (1 : Nat) ({ cls := "java/lang/Object", name := "<init>", desc := "()V" } : Jvm.MethodName)) ∈ lw_all := lw_g (lw_at lw_m3 9 rfl) rfl
theorem q530 : (Jvm.Cond.fieldLink "BinderyDesk$Correction" (7 : Nat) "BinderyDesk$Correction" "content" "LBinderyDesk$Content;") ∈ lw_all := lw_g (lw_at lw_m3 10 rfl) rfl
theorem q532 : (Jvm.Cond.laysFinal "BinderyDesk$Correction" "BinderyDesk$Correction" "content" "LBinderyDesk$Content;") ∈ lw_all := lw_g (lw_at lw_m3 12 rfl) rfl
theorem q533 : (Jvm.Cond.soleField "BinderyDesk$Correction" "content") ∈ lw_all := lw_g (lw_at lw_m3 13 rfl) rfl
theorem q534 : (Jvm.Cond.superclass "BinderyDesk$Correction" "java/lang/Object") ∈ lw_all := lw_g (lw_at lw_m3 14 rfl) rfl
theorem q1331 : (Jvm.Cond.selects "BinderyDesk$Correction" ({ cls := "java/lang/Object", name := "equals", desc := "(Ljava/lang/Object;)Z" } : Jvm.MethodName) ({ cls := "java/lang/Object", name := "equals", desc := "(Ljava/lang/Object;)Z" } : Jvm.MethodName)) ∈ lw_all := lw_g (lw_at lw_m6 91 rfl) rfl
theorem q1859 : (Jvm.Cond.castable "BinderyDesk$Correction" "BinderyDesk$Event") ∈ lw_tbl := lw_at lw_m8 139 rfl
theorem q1873 : (Jvm.Cond.castable "BinderyDesk$Correction" "java/lang/Object") ∈ lw_tbl := lw_at lw_m8 153 rfl
theorem in_X5 : ∀ w ∈ wsX50, w ∈ lw_all := lw_in wsX50 [532] (by decide +kernel) (by decide +kernel)

/-! BinderyDesk$Binding -/
set_option maxRecDepth 100000
def RX6 : String := "BinderyDesk$Binding"
abbrev cX6_of : ByteArray := prog_2_method_5_code
def yX6_of : MethodName := ⟨RX6, "of", "(C)LBinderyDesk$Binding;"⟩
def dkwX6_of_1 : List UInt8 := [26, 160, 0, 6, 25, 4, 176, 132, 3, 1, 167, 255, 231, 187, 0, 44, 89, 183, 0, 46, 191]
abbrev dktX6_of_1 : List UInt8 := dkwX6_of_1 ++ []
def dkwX6_of_0 : List UInt8 := [184, 0, 40, 76, 43, 190, 61, 3, 62, 29, 28, 162, 0, 26, 43, 29, 50, 58, 4, 25, 4, 180, 0, 32]
abbrev dktX6_of_0 : List UInt8 := dkwX6_of_0 ++ dktX6_of_1
theorem dksX6_of_0 : cX6_of.data.toList.drop 0 = dktX6_of_0 := by decide +kernel
theorem dksX6_of_1 : cX6_of.data.toList.drop 24 = dktX6_of_1 := dk_seg dksX6_of_0 24 rfl rfl
theorem dX6_of_0 : decode cX6_of 0 = .ok (.invokestatic 40, 3) := dk_184 0 40 (dk_at dksX6_of_0 0 rfl rfl)
theorem dX6_of_3 : decode cX6_of 3 = .ok (.astore_n 1, 1) := dk_76 (dk_at dksX6_of_0 3 rfl rfl)
theorem dX6_of_4 : decode cX6_of 4 = .ok (.aload_n 1, 1) := dk_43 (dk_at dksX6_of_0 4 rfl rfl)
theorem dX6_of_5 : decode cX6_of 5 = .ok (.arraylength, 1) := dk_190 (dk_at dksX6_of_0 5 rfl rfl)
theorem dX6_of_6 : decode cX6_of 6 = .ok (.istore_n 2, 1) := dk_61 (dk_at dksX6_of_0 6 rfl rfl)
theorem dX6_of_7 : decode cX6_of 7 = .ok (.iconst 0, 1) := dk_3 (dk_at dksX6_of_0 7 rfl rfl)
theorem dX6_of_8 : decode cX6_of 8 = .ok (.istore_n 3, 1) := dk_62 (dk_at dksX6_of_0 8 rfl rfl)
theorem dX6_of_9 : decode cX6_of 9 = .ok (.iload_n 3, 1) := dk_29 (dk_at dksX6_of_0 9 rfl rfl)
theorem dX6_of_10 : decode cX6_of 10 = .ok (.iload_n 2, 1) := dk_28 (dk_at dksX6_of_0 10 rfl rfl)
theorem dX6_of_11 : decode cX6_of 11 = .ok (.if_icmp .ge 26, 3) := dk_162 0 26 (dk_at dksX6_of_0 11 rfl rfl)
theorem dX6_of_14 : decode cX6_of 14 = .ok (.aload_n 1, 1) := dk_43 (dk_at dksX6_of_0 14 rfl rfl)
theorem dX6_of_15 : decode cX6_of 15 = .ok (.iload_n 3, 1) := dk_29 (dk_at dksX6_of_0 15 rfl rfl)
theorem dX6_of_16 : decode cX6_of 16 = .ok (.aaload, 1) := dk_50 (dk_at dksX6_of_0 16 rfl rfl)
theorem dX6_of_17 : decode cX6_of 17 = .ok (.astore 4, 2) := dk_58 4 (dk_at dksX6_of_0 17 rfl rfl)
theorem dX6_of_19 : decode cX6_of 19 = .ok (.aload 4, 2) := dk_25 4 (dk_at dksX6_of_0 19 rfl rfl)
theorem dX6_of_21 : decode cX6_of 21 = .ok (.getfield 32, 3) := dk_180 0 32 (dk_at dksX6_of_0 21 rfl rfl)
theorem dX6_of_24 : decode cX6_of 24 = .ok (.iload_n 0, 1) := dk_26 (dk_at dksX6_of_1 0 rfl rfl)
theorem dX6_of_25 : decode cX6_of 25 = .ok (.if_icmp .ne 6, 3) := dk_160 0 6 (dk_at dksX6_of_1 1 rfl rfl)
theorem dX6_of_28 : decode cX6_of 28 = .ok (.aload 4, 2) := dk_25 4 (dk_at dksX6_of_1 4 rfl rfl)
theorem dX6_of_30 : decode cX6_of 30 = .ok (.areturn, 1) := dk_176 (dk_at dksX6_of_1 6 rfl rfl)
theorem dX6_of_31 : decode cX6_of 31 = .ok (.iinc 3 1, 3) := dk_132 3 1 (dk_at dksX6_of_1 7 rfl rfl)
theorem dX6_of_34 : decode cX6_of 34 = .ok (.goto (-25), 3) := dk_167 255 231 (dk_at dksX6_of_1 10 rfl rfl)
theorem dX6_of_37 : decode cX6_of 37 = .ok (.new 44, 3) := dk_187 0 44 (dk_at dksX6_of_1 13 rfl rfl)
theorem dX6_of_40 : decode cX6_of 40 = .ok (.dup, 1) := dk_89 (dk_at dksX6_of_1 16 rfl rfl)
theorem dX6_of_41 : decode cX6_of 41 = .ok (.invokespecial 46, 3) := dk_183 0 46 (dk_at dksX6_of_1 17 rfl rfl)
theorem dX6_of_44 : decode cX6_of 44 = .ok (.athrow, 1) := dk_191 (dk_at dksX6_of_1 20 rfl rfl)
abbrev cX6_values : ByteArray := prog_2_method_1_code
def yX6_values : MethodName := ⟨RX6, "values", "()[LBinderyDesk$Binding;"⟩
def dkwX6_values_0 : List UInt8 := [178, 0, 13, 182, 0, 17, 192, 0, 18, 176]
abbrev dktX6_values_0 : List UInt8 := dkwX6_values_0 ++ []
theorem dksX6_values_0 : cX6_values.data.toList.drop 0 = dktX6_values_0 := by decide +kernel
theorem dX6_values_0 : decode cX6_values 0 = .ok (.getstatic 13, 3) := dk_178 0 13 (dk_at dksX6_values_0 0 rfl rfl)
theorem dX6_values_3 : decode cX6_values 3 = .ok (.invokevirtual 17, 3) := dk_182 0 17 (dk_at dksX6_values_0 3 rfl rfl)
theorem dX6_values_6 : decode cX6_values 6 = .ok (.checkcast 18, 3) := dk_192 0 18 (dk_at dksX6_values_0 6 rfl rfl)
theorem dX6_values_9 : decode cX6_values 9 = .ok (.areturn, 1) := dk_176 (dk_at dksX6_values_0 9 rfl rfl)
theorem q69 : (Jvm.Cond.initialized "BinderyDesk$Binding") ∈ lw_all := lw_g (lw_at lw_m1 29 rfl) rfl
theorem q660 : (Jvm.Cond.declares ({ cls := "BinderyDesk$Binding", name := "pageAt", desc := "(III)I" } : Jvm.MethodName)) ∈ lw_tbl := lw_at lw_m3 140 rfl
theorem q661 : (Jvm.Cond.sameMethod "BinderyDesk$Binding" "BinderyDesk$Binding" "pageAt" "(III)I") ∈ lw_all := lw_g (lw_at lw_m3 141 rfl) rfl
theorem q720 : (Jvm.Cond.static ({ cls := "BinderyDesk$Binding", name := "of", desc := "(C)LBinderyDesk$Binding;" } : Jvm.MethodName)) ∈ lw_all := lw_g (lw_at lw_m3 200 rfl) rfl
theorem q721 : (Jvm.Cond.code ({ cls := "BinderyDesk$Binding", name := "of", desc := "(C)LBinderyDesk$Binding;" } : Jvm.MethodName) prog_2_method_5_code (5 : Nat) (Option.some (Jvm.ClassFile.FieldType.object "BinderyDesk$Binding"))) ∈ lw_all := lw_g (lw_at lw_m3 201 rfl) rfl
theorem q722 : (Jvm.Cond.methodLink "BinderyDesk$Binding" (40 : Nat) ({ cls := "BinderyDesk$Binding", name := "values", desc := "()[LBinderyDesk$Binding;" } : Jvm.MethodName)) ∈ lw_all := lw_g (lw_at lw_m3 202 rfl) rfl
theorem q723 : (Jvm.Cond.static ({ cls := "BinderyDesk$Binding", name := "values", desc := "()[LBinderyDesk$Binding;" } : Jvm.MethodName)) ∈ lw_all := lw_g (lw_at lw_m3 203 rfl) rfl
theorem q724 : (Jvm.Cond.code ({ cls := "BinderyDesk$Binding", name := "values", desc := "()[LBinderyDesk$Binding;" } : Jvm.MethodName) prog_2_method_1_code (0 : Nat) (Option.some (Jvm.ClassFile.FieldType.array (Jvm.ClassFile.FieldType.object "BinderyDesk$Binding")))) ∈ lw_all := lw_g (lw_at lw_m3 204 rfl) rfl
theorem q725 : (Jvm.Cond.fieldLink "BinderyDesk$Binding" (13 : Nat) "BinderyDesk$Binding" "$VALUES" "[LBinderyDesk$Binding;") ∈ lw_all := lw_g (lw_at lw_m3 205 rfl) rfl
theorem q726 : (Jvm.Cond.laysStatic "BinderyDesk$Binding" "$VALUES" "[LBinderyDesk$Binding;") ∈ lw_tbl := lw_at lw_m3 206 rfl
theorem q727 : (Jvm.Cond.methodLink "BinderyDesk$Binding" (17 : Nat) ({ cls := "[LBinderyDesk$Binding;", name := "clone", desc := "()Ljava/lang/Object;" } : Jvm.MethodName)) ∈ lw_all := lw_g (lw_at lw_m3 207 rfl) rfl
theorem q734 : (Jvm.Cond.classLink "BinderyDesk$Binding" (18 : Nat) "[LBinderyDesk$Binding;") ∈ lw_all := lw_g (lw_at lw_m3 214 rfl) rfl
theorem q735 : (Jvm.Cond.classLink "BinderyDesk$Binding" (44 : Nat) "java/lang/IllegalArgumentException") ∈ lw_all := lw_g (lw_at lw_m3 215 rfl) rfl
theorem q744 : (Jvm.Cond.methodLink "BinderyDesk$Binding" (46 : Nat) ({ cls := "java/lang/IllegalArgumentException", name := "<init>", desc := "()V" } : Jvm.MethodName)) ∈ lw_all := lw_g (lw_at lw_m3 224 rfl) rfl
theorem q1862 : (Jvm.Cond.castable "BinderyDesk$Binding" "java/lang/Object") ∈ lw_tbl := lw_at lw_m8 142 rfl
theorem q1906 : (Jvm.Cond.fieldLink "BinderyDesk$Binding" (32 : Nat) "BinderyDesk$Binding" "sign" "C") ∈ lw_all := lw_g (lw_at lw_m8 186 rfl) rfl
theorem q1911 : (Jvm.Cond.laysStatic "BinderyDesk$Binding" "SADDLE" "LBinderyDesk$Binding;") ∈ lw_tbl := lw_at lw_m8 191 rfl
theorem q1912 : (Jvm.Cond.laysStatic "BinderyDesk$Binding" "PERFECT" "LBinderyDesk$Binding;") ∈ lw_tbl := lw_at lw_m8 192 rfl
theorem q1913 : (Jvm.Cond.laysStatic "BinderyDesk$Binding" "WIRE" "LBinderyDesk$Binding;") ∈ lw_tbl := lw_at lw_m8 193 rfl

/-! BinderyDesk$Job -/
set_option maxRecDepth 100000
def RX7 : String := "BinderyDesk$Job"
def TX7 : u_T := fun k => match k with
  | 0 => ("BinderyDesk$Job", "binding", "LBinderyDesk$Binding;", true)
  | 1 => ("BinderyDesk$Job", "pages", "Ljava/util/List;", true)
  | _ => ("BinderyDesk$Job", "piles", "Ljava/util/List;", true)
def tyX7 : Nat → FieldType := fun k => match k with
  | 0 => .object "BinderyDesk$Binding"
  | 1 => .object "java/util/List"
  | _ => .object "java/util/List"
abbrev wsX70 : List Cond := u_ws RX7 TX7 3
theorem nmX7 : ∀ a, a < 3 → ∀ b, b < 3 → a ≠ b → (TX7 a).2.1 ≠ (TX7 b).2.1 := by decide +kernel
theorem tyX7_ok : ∀ k, k < 3 → parseFieldDescriptor (TX7 k).2.2.1 = some (tyX7 k) := by decide +kernel
abbrev cX7_takeOff : ByteArray := prog_10_method_9_code
def yX7_takeOff : MethodName := ⟨RX7, "takeOff", "(LBinderyDesk$Content;)I"⟩
def dkwX7_takeOff_2 : List UInt8 := [182, 0, 85, 167, 0, 4, 3, 96, 61, 132, 3, 1, 167, 255, 202, 28, 172]
abbrev dktX7_takeOff_2 : List UInt8 := dkwX7_takeOff_2 ++ []
def dkwX7_takeOff_1 : List UInt8 := [42, 29, 43, 182, 0, 81, 153, 0, 22, 42, 180, 0, 18, 29, 185, 0, 57, 2, 0, 192, 0, 25]
abbrev dktX7_takeOff_1 : List UInt8 := dkwX7_takeOff_1 ++ dktX7_takeOff_2
def dkwX7_takeOff_0 : List UInt8 := [3, 61, 3, 62, 42, 182, 0, 75, 153, 0, 53, 29, 42, 182, 0, 78, 162, 0, 45, 28, 43, 198, 0, 12]
abbrev dktX7_takeOff_0 : List UInt8 := dkwX7_takeOff_0 ++ dktX7_takeOff_1
theorem dksX7_takeOff_0 : cX7_takeOff.data.toList.drop 0 = dktX7_takeOff_0 := by decide +kernel
theorem dksX7_takeOff_1 : cX7_takeOff.data.toList.drop 24 = dktX7_takeOff_1 := dk_seg dksX7_takeOff_0 24 rfl rfl
theorem dksX7_takeOff_2 : cX7_takeOff.data.toList.drop 46 = dktX7_takeOff_2 := dk_seg dksX7_takeOff_1 22 rfl rfl
theorem dX7_takeOff_0 : decode cX7_takeOff 0 = .ok (.iconst 0, 1) := dk_3 (dk_at dksX7_takeOff_0 0 rfl rfl)
theorem dX7_takeOff_1 : decode cX7_takeOff 1 = .ok (.istore_n 2, 1) := dk_61 (dk_at dksX7_takeOff_0 1 rfl rfl)
theorem dX7_takeOff_2 : decode cX7_takeOff 2 = .ok (.iconst 0, 1) := dk_3 (dk_at dksX7_takeOff_0 2 rfl rfl)
theorem dX7_takeOff_3 : decode cX7_takeOff 3 = .ok (.istore_n 3, 1) := dk_62 (dk_at dksX7_takeOff_0 3 rfl rfl)
theorem dX7_takeOff_4 : decode cX7_takeOff 4 = .ok (.aload_n 0, 1) := dk_42 (dk_at dksX7_takeOff_0 4 rfl rfl)
theorem dX7_takeOff_5 : decode cX7_takeOff 5 = .ok (.invokevirtual 75, 3) := dk_182 0 75 (dk_at dksX7_takeOff_0 5 rfl rfl)
theorem dX7_takeOff_8 : decode cX7_takeOff 8 = .ok (.ifCond .eq 53, 3) := dk_153 0 53 (dk_at dksX7_takeOff_0 8 rfl rfl)
theorem dX7_takeOff_11 : decode cX7_takeOff 11 = .ok (.iload_n 3, 1) := dk_29 (dk_at dksX7_takeOff_0 11 rfl rfl)
theorem dX7_takeOff_12 : decode cX7_takeOff 12 = .ok (.aload_n 0, 1) := dk_42 (dk_at dksX7_takeOff_0 12 rfl rfl)
theorem dX7_takeOff_13 : decode cX7_takeOff 13 = .ok (.invokevirtual 78, 3) := dk_182 0 78 (dk_at dksX7_takeOff_0 13 rfl rfl)
theorem dX7_takeOff_16 : decode cX7_takeOff 16 = .ok (.if_icmp .ge 45, 3) := dk_162 0 45 (dk_at dksX7_takeOff_0 16 rfl rfl)
theorem dX7_takeOff_19 : decode cX7_takeOff 19 = .ok (.iload_n 2, 1) := dk_28 (dk_at dksX7_takeOff_0 19 rfl rfl)
theorem dX7_takeOff_20 : decode cX7_takeOff 20 = .ok (.aload_n 1, 1) := dk_43 (dk_at dksX7_takeOff_0 20 rfl rfl)
theorem dX7_takeOff_21 : decode cX7_takeOff 21 = .ok (.ifnull 12, 3) := dk_198 0 12 (dk_at dksX7_takeOff_0 21 rfl rfl)
theorem dX7_takeOff_24 : decode cX7_takeOff 24 = .ok (.aload_n 0, 1) := dk_42 (dk_at dksX7_takeOff_1 0 rfl rfl)
theorem dX7_takeOff_25 : decode cX7_takeOff 25 = .ok (.iload_n 3, 1) := dk_29 (dk_at dksX7_takeOff_1 1 rfl rfl)
theorem dX7_takeOff_26 : decode cX7_takeOff 26 = .ok (.aload_n 1, 1) := dk_43 (dk_at dksX7_takeOff_1 2 rfl rfl)
theorem dX7_takeOff_27 : decode cX7_takeOff 27 = .ok (.invokevirtual 81, 3) := dk_182 0 81 (dk_at dksX7_takeOff_1 3 rfl rfl)
theorem dX7_takeOff_30 : decode cX7_takeOff 30 = .ok (.ifCond .eq 22, 3) := dk_153 0 22 (dk_at dksX7_takeOff_1 6 rfl rfl)
theorem dX7_takeOff_33 : decode cX7_takeOff 33 = .ok (.aload_n 0, 1) := dk_42 (dk_at dksX7_takeOff_1 9 rfl rfl)
theorem dX7_takeOff_34 : decode cX7_takeOff 34 = .ok (.getfield 18, 3) := dk_180 0 18 (dk_at dksX7_takeOff_1 10 rfl rfl)
theorem dX7_takeOff_37 : decode cX7_takeOff 37 = .ok (.iload_n 3, 1) := dk_29 (dk_at dksX7_takeOff_1 13 rfl rfl)
theorem dX7_takeOff_38 : decode cX7_takeOff 38 = .ok (.invokeinterface 57 2, 5) := by decide +kernel
theorem dX7_takeOff_43 : decode cX7_takeOff 43 = .ok (.checkcast 25, 3) := dk_192 0 25 (dk_at dksX7_takeOff_1 19 rfl rfl)
theorem dX7_takeOff_46 : decode cX7_takeOff 46 = .ok (.invokevirtual 85, 3) := dk_182 0 85 (dk_at dksX7_takeOff_2 0 rfl rfl)
theorem dX7_takeOff_49 : decode cX7_takeOff 49 = .ok (.goto 4, 3) := dk_167 0 4 (dk_at dksX7_takeOff_2 3 rfl rfl)
theorem dX7_takeOff_52 : decode cX7_takeOff 52 = .ok (.iconst 0, 1) := dk_3 (dk_at dksX7_takeOff_2 6 rfl rfl)
theorem dX7_takeOff_53 : decode cX7_takeOff 53 = .ok (.iadd, 1) := dk_96 (dk_at dksX7_takeOff_2 7 rfl rfl)
theorem dX7_takeOff_54 : decode cX7_takeOff 54 = .ok (.istore_n 2, 1) := dk_61 (dk_at dksX7_takeOff_2 8 rfl rfl)
theorem dX7_takeOff_55 : decode cX7_takeOff 55 = .ok (.iinc 3 1, 3) := dk_132 3 1 (dk_at dksX7_takeOff_2 9 rfl rfl)
theorem dX7_takeOff_58 : decode cX7_takeOff 58 = .ok (.goto (-54), 3) := dk_167 255 202 (dk_at dksX7_takeOff_2 12 rfl rfl)
theorem dX7_takeOff_61 : decode cX7_takeOff 61 = .ok (.iload_n 2, 1) := dk_28 (dk_at dksX7_takeOff_2 15 rfl rfl)
theorem dX7_takeOff_62 : decode cX7_takeOff 62 = .ok (.ireturn, 1) := dk_172 (dk_at dksX7_takeOff_2 16 rfl rfl)
abbrev cX7_isComplete : ByteArray := prog_10_method_2_code
def yX7_isComplete : MethodName := ⟨RX7, "isComplete", "()Z"⟩
def dkwX7_isComplete_1 : List UInt8 := [180, 0, 21, 180, 0, 44, 112, 154, 0, 7, 4, 167, 0, 4, 3, 172]
abbrev dktX7_isComplete_1 : List UInt8 := dkwX7_isComplete_1 ++ []
def dkwX7_isComplete_0 : List UInt8 := [42, 180, 0, 12, 185, 0, 36, 1, 0, 154, 0, 27, 42, 180, 0, 12, 185, 0, 40, 1, 0, 42]
abbrev dktX7_isComplete_0 : List UInt8 := dkwX7_isComplete_0 ++ dktX7_isComplete_1
theorem dksX7_isComplete_0 : cX7_isComplete.data.toList.drop 0 = dktX7_isComplete_0 := by decide +kernel
theorem dksX7_isComplete_1 : cX7_isComplete.data.toList.drop 22 = dktX7_isComplete_1 := dk_seg dksX7_isComplete_0 22 rfl rfl
theorem dX7_isComplete_0 : decode cX7_isComplete 0 = .ok (.aload_n 0, 1) := dk_42 (dk_at dksX7_isComplete_0 0 rfl rfl)
theorem dX7_isComplete_1 : decode cX7_isComplete 1 = .ok (.getfield 12, 3) := dk_180 0 12 (dk_at dksX7_isComplete_0 1 rfl rfl)
theorem dX7_isComplete_4 : decode cX7_isComplete 4 = .ok (.invokeinterface 36 1, 5) := by decide +kernel
theorem dX7_isComplete_9 : decode cX7_isComplete 9 = .ok (.ifCond .ne 27, 3) := dk_154 0 27 (dk_at dksX7_isComplete_0 9 rfl rfl)
theorem dX7_isComplete_12 : decode cX7_isComplete 12 = .ok (.aload_n 0, 1) := dk_42 (dk_at dksX7_isComplete_0 12 rfl rfl)
theorem dX7_isComplete_13 : decode cX7_isComplete 13 = .ok (.getfield 12, 3) := dk_180 0 12 (dk_at dksX7_isComplete_0 13 rfl rfl)
theorem dX7_isComplete_16 : decode cX7_isComplete 16 = .ok (.invokeinterface 40 1, 5) := by decide +kernel
theorem dX7_isComplete_21 : decode cX7_isComplete 21 = .ok (.aload_n 0, 1) := dk_42 (dk_at dksX7_isComplete_0 21 rfl rfl)
theorem dX7_isComplete_22 : decode cX7_isComplete 22 = .ok (.getfield 21, 3) := dk_180 0 21 (dk_at dksX7_isComplete_1 0 rfl rfl)
theorem dX7_isComplete_25 : decode cX7_isComplete 25 = .ok (.getfield 44, 3) := dk_180 0 44 (dk_at dksX7_isComplete_1 3 rfl rfl)
theorem dX7_isComplete_28 : decode cX7_isComplete 28 = .ok (.irem, 1) := dk_112 (dk_at dksX7_isComplete_1 6 rfl rfl)
theorem dX7_isComplete_29 : decode cX7_isComplete 29 = .ok (.ifCond .ne 7, 3) := dk_154 0 7 (dk_at dksX7_isComplete_1 7 rfl rfl)
theorem dX7_isComplete_32 : decode cX7_isComplete 32 = .ok (.iconst 1, 1) := dk_4 (dk_at dksX7_isComplete_1 10 rfl rfl)
theorem dX7_isComplete_33 : decode cX7_isComplete 33 = .ok (.goto 4, 3) := dk_167 0 4 (dk_at dksX7_isComplete_1 11 rfl rfl)
theorem dX7_isComplete_36 : decode cX7_isComplete 36 = .ok (.iconst 0, 1) := dk_3 (dk_at dksX7_isComplete_1 14 rfl rfl)
theorem dX7_isComplete_37 : decode cX7_isComplete 37 = .ok (.ireturn, 1) := dk_172 (dk_at dksX7_isComplete_1 15 rfl rfl)
abbrev cX7_sheets : ByteArray := prog_10_method_3_code
def yX7_sheets : MethodName := ⟨RX7, "sheets", "()I"⟩
def dkwX7_sheets_0 : List UInt8 := [42, 180, 0, 12, 185, 0, 40, 1, 0, 42, 180, 0, 21, 180, 0, 44, 108, 172]
abbrev dktX7_sheets_0 : List UInt8 := dkwX7_sheets_0 ++ []
theorem dksX7_sheets_0 : cX7_sheets.data.toList.drop 0 = dktX7_sheets_0 := by decide +kernel
theorem dX7_sheets_0 : decode cX7_sheets 0 = .ok (.aload_n 0, 1) := dk_42 (dk_at dksX7_sheets_0 0 rfl rfl)
theorem dX7_sheets_1 : decode cX7_sheets 1 = .ok (.getfield 12, 3) := dk_180 0 12 (dk_at dksX7_sheets_0 1 rfl rfl)
theorem dX7_sheets_4 : decode cX7_sheets 4 = .ok (.invokeinterface 40 1, 5) := by decide +kernel
theorem dX7_sheets_9 : decode cX7_sheets 9 = .ok (.aload_n 0, 1) := dk_42 (dk_at dksX7_sheets_0 9 rfl rfl)
theorem dX7_sheets_10 : decode cX7_sheets 10 = .ok (.getfield 21, 3) := dk_180 0 21 (dk_at dksX7_sheets_0 10 rfl rfl)
theorem dX7_sheets_13 : decode cX7_sheets 13 = .ok (.getfield 44, 3) := dk_180 0 44 (dk_at dksX7_sheets_0 13 rfl rfl)
theorem dX7_sheets_16 : decode cX7_sheets 16 = .ok (.idiv, 1) := dk_108 (dk_at dksX7_sheets_0 16 rfl rfl)
theorem dX7_sheets_17 : decode cX7_sheets 17 = .ok (.ireturn, 1) := dk_172 (dk_at dksX7_sheets_0 17 rfl rfl)
abbrev cX7_shows : ByteArray := prog_10_method_7_code
def yX7_shows : MethodName := ⟨RX7, "shows", "(ILBinderyDesk$Content;)Z"⟩
def dkwX7_shows_1 : List UInt8 := [182, 0, 63, 44, 166, 0, 7, 4, 167, 0, 4, 3, 128, 62, 132, 4, 1, 167, 255, 222, 29, 172]
abbrev dktX7_shows_1 : List UInt8 := dkwX7_shows_1 ++ []
def dkwX7_shows_0 : List UInt8 := [3, 62, 3, 54, 4, 21, 4, 42, 180, 0, 21, 180, 0, 44, 162, 0, 28, 29, 42, 27, 21, 4]
abbrev dktX7_shows_0 : List UInt8 := dkwX7_shows_0 ++ dktX7_shows_1
theorem dksX7_shows_0 : cX7_shows.data.toList.drop 0 = dktX7_shows_0 := by decide +kernel
theorem dksX7_shows_1 : cX7_shows.data.toList.drop 22 = dktX7_shows_1 := dk_seg dksX7_shows_0 22 rfl rfl
theorem dX7_shows_0 : decode cX7_shows 0 = .ok (.iconst 0, 1) := dk_3 (dk_at dksX7_shows_0 0 rfl rfl)
theorem dX7_shows_1 : decode cX7_shows 1 = .ok (.istore_n 3, 1) := dk_62 (dk_at dksX7_shows_0 1 rfl rfl)
theorem dX7_shows_2 : decode cX7_shows 2 = .ok (.iconst 0, 1) := dk_3 (dk_at dksX7_shows_0 2 rfl rfl)
theorem dX7_shows_3 : decode cX7_shows 3 = .ok (.istore 4, 2) := dk_54 4 (dk_at dksX7_shows_0 3 rfl rfl)
theorem dX7_shows_5 : decode cX7_shows 5 = .ok (.iload 4, 2) := dk_21 4 (dk_at dksX7_shows_0 5 rfl rfl)
theorem dX7_shows_7 : decode cX7_shows 7 = .ok (.aload_n 0, 1) := dk_42 (dk_at dksX7_shows_0 7 rfl rfl)
theorem dX7_shows_8 : decode cX7_shows 8 = .ok (.getfield 21, 3) := dk_180 0 21 (dk_at dksX7_shows_0 8 rfl rfl)
theorem dX7_shows_11 : decode cX7_shows 11 = .ok (.getfield 44, 3) := dk_180 0 44 (dk_at dksX7_shows_0 11 rfl rfl)
theorem dX7_shows_14 : decode cX7_shows 14 = .ok (.if_icmp .ge 28, 3) := dk_162 0 28 (dk_at dksX7_shows_0 14 rfl rfl)
theorem dX7_shows_17 : decode cX7_shows 17 = .ok (.iload_n 3, 1) := dk_29 (dk_at dksX7_shows_0 17 rfl rfl)
theorem dX7_shows_18 : decode cX7_shows 18 = .ok (.aload_n 0, 1) := dk_42 (dk_at dksX7_shows_0 18 rfl rfl)
theorem dX7_shows_19 : decode cX7_shows 19 = .ok (.iload_n 1, 1) := dk_27 (dk_at dksX7_shows_0 19 rfl rfl)
theorem dX7_shows_20 : decode cX7_shows 20 = .ok (.iload 4, 2) := dk_21 4 (dk_at dksX7_shows_0 20 rfl rfl)
theorem dX7_shows_22 : decode cX7_shows 22 = .ok (.invokevirtual 63, 3) := dk_182 0 63 (dk_at dksX7_shows_1 0 rfl rfl)
theorem dX7_shows_25 : decode cX7_shows 25 = .ok (.aload_n 2, 1) := dk_44 (dk_at dksX7_shows_1 3 rfl rfl)
theorem dX7_shows_26 : decode cX7_shows 26 = .ok (.if_acmp .ne 7, 3) := dk_166 0 7 (dk_at dksX7_shows_1 4 rfl rfl)
theorem dX7_shows_29 : decode cX7_shows 29 = .ok (.iconst 1, 1) := dk_4 (dk_at dksX7_shows_1 7 rfl rfl)
theorem dX7_shows_30 : decode cX7_shows 30 = .ok (.goto 4, 3) := dk_167 0 4 (dk_at dksX7_shows_1 8 rfl rfl)
theorem dX7_shows_33 : decode cX7_shows 33 = .ok (.iconst 0, 1) := dk_3 (dk_at dksX7_shows_1 11 rfl rfl)
theorem dX7_shows_34 : decode cX7_shows 34 = .ok (.ior, 1) := dk_128 (dk_at dksX7_shows_1 12 rfl rfl)
theorem dX7_shows_35 : decode cX7_shows 35 = .ok (.istore_n 3, 1) := dk_62 (dk_at dksX7_shows_1 13 rfl rfl)
theorem dX7_shows_36 : decode cX7_shows 36 = .ok (.iinc 4 1, 3) := dk_132 4 1 (dk_at dksX7_shows_1 14 rfl rfl)
theorem dX7_shows_39 : decode cX7_shows 39 = .ok (.goto (-34), 3) := dk_167 255 222 (dk_at dksX7_shows_1 17 rfl rfl)
theorem dX7_shows_42 : decode cX7_shows 42 = .ok (.iload_n 3, 1) := dk_29 (dk_at dksX7_shows_1 20 rfl rfl)
theorem dX7_shows_43 : decode cX7_shows 43 = .ok (.ireturn, 1) := dk_172 (dk_at dksX7_shows_1 21 rfl rfl)
abbrev cX7_contentAt : ByteArray := prog_10_method_5_code
def yX7_contentAt : MethodName := ⟨RX7, "contentAt", "(II)LBinderyDesk$Content;"⟩
def dkwX7_contentAt_0 : List UInt8 := [42, 180, 0, 12, 42, 27, 28, 182, 0, 54, 4, 100, 185, 0, 57, 2, 0, 192, 0, 61, 176]
abbrev dktX7_contentAt_0 : List UInt8 := dkwX7_contentAt_0 ++ []
theorem dksX7_contentAt_0 : cX7_contentAt.data.toList.drop 0 = dktX7_contentAt_0 := by decide +kernel
theorem dX7_contentAt_0 : decode cX7_contentAt 0 = .ok (.aload_n 0, 1) := dk_42 (dk_at dksX7_contentAt_0 0 rfl rfl)
theorem dX7_contentAt_1 : decode cX7_contentAt 1 = .ok (.getfield 12, 3) := dk_180 0 12 (dk_at dksX7_contentAt_0 1 rfl rfl)
theorem dX7_contentAt_4 : decode cX7_contentAt 4 = .ok (.aload_n 0, 1) := dk_42 (dk_at dksX7_contentAt_0 4 rfl rfl)
theorem dX7_contentAt_5 : decode cX7_contentAt 5 = .ok (.iload_n 1, 1) := dk_27 (dk_at dksX7_contentAt_0 5 rfl rfl)
theorem dX7_contentAt_6 : decode cX7_contentAt 6 = .ok (.iload_n 2, 1) := dk_28 (dk_at dksX7_contentAt_0 6 rfl rfl)
theorem dX7_contentAt_7 : decode cX7_contentAt 7 = .ok (.invokevirtual 54, 3) := dk_182 0 54 (dk_at dksX7_contentAt_0 7 rfl rfl)
theorem dX7_contentAt_10 : decode cX7_contentAt 10 = .ok (.iconst 1, 1) := dk_4 (dk_at dksX7_contentAt_0 10 rfl rfl)
theorem dX7_contentAt_11 : decode cX7_contentAt 11 = .ok (.isub, 1) := dk_100 (dk_at dksX7_contentAt_0 11 rfl rfl)
theorem dX7_contentAt_12 : decode cX7_contentAt 12 = .ok (.invokeinterface 57 2, 5) := by decide +kernel
theorem dX7_contentAt_17 : decode cX7_contentAt 17 = .ok (.checkcast 61, 3) := dk_192 0 61 (dk_at dksX7_contentAt_0 17 rfl rfl)
theorem dX7_contentAt_20 : decode cX7_contentAt 20 = .ok (.areturn, 1) := dk_176 (dk_at dksX7_contentAt_0 20 rfl rfl)
abbrev cX7_pageAt : ByteArray := prog_10_method_4_code
def yX7_pageAt : MethodName := ⟨RX7, "pageAt", "(II)I"⟩
def dkwX7_pageAt_0 : List UInt8 := [42, 180, 0, 21, 42, 180, 0, 12, 185, 0, 40, 1, 0, 27, 28, 182, 0, 50, 172]
abbrev dktX7_pageAt_0 : List UInt8 := dkwX7_pageAt_0 ++ []
theorem dksX7_pageAt_0 : cX7_pageAt.data.toList.drop 0 = dktX7_pageAt_0 := by decide +kernel
theorem dX7_pageAt_0 : decode cX7_pageAt 0 = .ok (.aload_n 0, 1) := dk_42 (dk_at dksX7_pageAt_0 0 rfl rfl)
theorem dX7_pageAt_1 : decode cX7_pageAt 1 = .ok (.getfield 21, 3) := dk_180 0 21 (dk_at dksX7_pageAt_0 1 rfl rfl)
theorem dX7_pageAt_4 : decode cX7_pageAt 4 = .ok (.aload_n 0, 1) := dk_42 (dk_at dksX7_pageAt_0 4 rfl rfl)
theorem dX7_pageAt_5 : decode cX7_pageAt 5 = .ok (.getfield 12, 3) := dk_180 0 12 (dk_at dksX7_pageAt_0 5 rfl rfl)
theorem dX7_pageAt_8 : decode cX7_pageAt 8 = .ok (.invokeinterface 40 1, 5) := by decide +kernel
theorem dX7_pageAt_13 : decode cX7_pageAt 13 = .ok (.iload_n 1, 1) := dk_27 (dk_at dksX7_pageAt_0 13 rfl rfl)
theorem dX7_pageAt_14 : decode cX7_pageAt 14 = .ok (.iload_n 2, 1) := dk_28 (dk_at dksX7_pageAt_0 14 rfl rfl)
theorem dX7_pageAt_15 : decode cX7_pageAt 15 = .ok (.invokevirtual 50, 3) := dk_182 0 50 (dk_at dksX7_pageAt_0 15 rfl rfl)
theorem dX7_pageAt_18 : decode cX7_pageAt 18 = .ok (.ireturn, 1) := dk_172 (dk_at dksX7_pageAt_0 18 rfl rfl)
abbrev cX7_init : ByteArray := prog_10_method_1_code
def yX7_init : MethodName := ⟨RX7, "<init>", "(LBinderyDesk$Binding;LBinderyDesk$Counter;)V"⟩
def dkwX7_init_2 : List UInt8 := [44, 183, 0, 27, 185, 0, 30, 2, 0, 87, 132, 3, 1, 167, 255, 229, 177]
abbrev dktX7_init_2 : List UInt8 := dkwX7_init_2 ++ []
def dkwX7_init_1 : List UInt8 := [181, 0, 18, 42, 43, 181, 0, 21, 3, 62, 29, 16, 8, 162, 0, 27, 42, 180, 0, 18, 187, 0, 25, 89]
abbrev dktX7_init_1 : List UInt8 := dkwX7_init_1 ++ dktX7_init_2
def dkwX7_init_0 : List UInt8 := [42, 183, 0, 3, 42, 187, 0, 9, 89, 183, 0, 11, 181, 0, 12, 42, 187, 0, 9, 89, 183, 0, 11]
abbrev dktX7_init_0 : List UInt8 := dkwX7_init_0 ++ dktX7_init_1
theorem dksX7_init_0 : cX7_init.data.toList.drop 0 = dktX7_init_0 := by decide +kernel
theorem dksX7_init_1 : cX7_init.data.toList.drop 23 = dktX7_init_1 := dk_seg dksX7_init_0 23 rfl rfl
theorem dksX7_init_2 : cX7_init.data.toList.drop 47 = dktX7_init_2 := dk_seg dksX7_init_1 24 rfl rfl
theorem dX7_init_0 : decode cX7_init 0 = .ok (.aload_n 0, 1) := dk_42 (dk_at dksX7_init_0 0 rfl rfl)
theorem dX7_init_1 : decode cX7_init 1 = .ok (.invokespecial 3, 3) := dk_183 0 3 (dk_at dksX7_init_0 1 rfl rfl)
theorem dX7_init_4 : decode cX7_init 4 = .ok (.aload_n 0, 1) := dk_42 (dk_at dksX7_init_0 4 rfl rfl)
theorem dX7_init_5 : decode cX7_init 5 = .ok (.new 9, 3) := dk_187 0 9 (dk_at dksX7_init_0 5 rfl rfl)
theorem dX7_init_8 : decode cX7_init 8 = .ok (.dup, 1) := dk_89 (dk_at dksX7_init_0 8 rfl rfl)
theorem dX7_init_9 : decode cX7_init 9 = .ok (.invokespecial 11, 3) := dk_183 0 11 (dk_at dksX7_init_0 9 rfl rfl)
theorem dX7_init_12 : decode cX7_init 12 = .ok (.putfield 12, 3) := dk_181 0 12 (dk_at dksX7_init_0 12 rfl rfl)
theorem dX7_init_15 : decode cX7_init 15 = .ok (.aload_n 0, 1) := dk_42 (dk_at dksX7_init_0 15 rfl rfl)
theorem dX7_init_16 : decode cX7_init 16 = .ok (.new 9, 3) := dk_187 0 9 (dk_at dksX7_init_0 16 rfl rfl)
theorem dX7_init_19 : decode cX7_init 19 = .ok (.dup, 1) := dk_89 (dk_at dksX7_init_0 19 rfl rfl)
theorem dX7_init_20 : decode cX7_init 20 = .ok (.invokespecial 11, 3) := dk_183 0 11 (dk_at dksX7_init_0 20 rfl rfl)
theorem dX7_init_23 : decode cX7_init 23 = .ok (.putfield 18, 3) := dk_181 0 18 (dk_at dksX7_init_1 0 rfl rfl)
theorem dX7_init_26 : decode cX7_init 26 = .ok (.aload_n 0, 1) := dk_42 (dk_at dksX7_init_1 3 rfl rfl)
theorem dX7_init_27 : decode cX7_init 27 = .ok (.aload_n 1, 1) := dk_43 (dk_at dksX7_init_1 4 rfl rfl)
theorem dX7_init_28 : decode cX7_init 28 = .ok (.putfield 21, 3) := dk_181 0 21 (dk_at dksX7_init_1 5 rfl rfl)
theorem dX7_init_31 : decode cX7_init 31 = .ok (.iconst 0, 1) := dk_3 (dk_at dksX7_init_1 8 rfl rfl)
theorem dX7_init_32 : decode cX7_init 32 = .ok (.istore_n 3, 1) := dk_62 (dk_at dksX7_init_1 9 rfl rfl)
theorem dX7_init_33 : decode cX7_init 33 = .ok (.iload_n 3, 1) := dk_29 (dk_at dksX7_init_1 10 rfl rfl)
theorem dX7_init_34 : decode cX7_init 34 = .ok (.bipush 8, 2) := dk_16 8 (dk_at dksX7_init_1 11 rfl rfl)
theorem dX7_init_36 : decode cX7_init 36 = .ok (.if_icmp .ge 27, 3) := dk_162 0 27 (dk_at dksX7_init_1 13 rfl rfl)
theorem dX7_init_39 : decode cX7_init 39 = .ok (.aload_n 0, 1) := dk_42 (dk_at dksX7_init_1 16 rfl rfl)
theorem dX7_init_40 : decode cX7_init 40 = .ok (.getfield 18, 3) := dk_180 0 18 (dk_at dksX7_init_1 17 rfl rfl)
theorem dX7_init_43 : decode cX7_init 43 = .ok (.new 25, 3) := dk_187 0 25 (dk_at dksX7_init_1 20 rfl rfl)
theorem dX7_init_46 : decode cX7_init 46 = .ok (.dup, 1) := dk_89 (dk_at dksX7_init_1 23 rfl rfl)
theorem dX7_init_47 : decode cX7_init 47 = .ok (.aload_n 2, 1) := dk_44 (dk_at dksX7_init_2 0 rfl rfl)
theorem dX7_init_48 : decode cX7_init 48 = .ok (.invokespecial 27, 3) := dk_183 0 27 (dk_at dksX7_init_2 1 rfl rfl)
theorem dX7_init_51 : decode cX7_init 51 = .ok (.invokeinterface 30 2, 5) := by decide +kernel
theorem dX7_init_56 : decode cX7_init 56 = .ok (.pop, 1) := dk_87 (dk_at dksX7_init_2 9 rfl rfl)
theorem dX7_init_57 : decode cX7_init 57 = .ok (.iinc 3 1, 3) := dk_132 3 1 (dk_at dksX7_init_2 10 rfl rfl)
theorem dX7_init_60 : decode cX7_init 60 = .ok (.goto (-27), 3) := dk_167 255 229 (dk_at dksX7_init_2 13 rfl rfl)
theorem dX7_init_63 : decode cX7_init 63 = .ok (.return_, 1) := dk_177 (dk_at dksX7_init_2 16 rfl rfl)
abbrev cX7_isApproved : ByteArray := prog_10_method_8_code
def yX7_isApproved : MethodName := ⟨RX7, "isApproved", "(I)Z"⟩
def dkwX7_isApproved_1 : List UInt8 := [180, 0, 71, 126, 61, 132, 3, 1, 167, 255, 230, 28, 172]
abbrev dktX7_isApproved_1 : List UInt8 := dkwX7_isApproved_1 ++ []
def dkwX7_isApproved_0 : List UInt8 := [4, 61, 3, 62, 29, 42, 180, 0, 21, 180, 0, 44, 162, 0, 21, 28, 42, 27, 29, 182, 0, 63]
abbrev dktX7_isApproved_0 : List UInt8 := dkwX7_isApproved_0 ++ dktX7_isApproved_1
theorem dksX7_isApproved_0 : cX7_isApproved.data.toList.drop 0 = dktX7_isApproved_0 := by decide +kernel
theorem dksX7_isApproved_1 : cX7_isApproved.data.toList.drop 22 = dktX7_isApproved_1 := dk_seg dksX7_isApproved_0 22 rfl rfl
theorem dX7_isApproved_0 : decode cX7_isApproved 0 = .ok (.iconst 1, 1) := dk_4 (dk_at dksX7_isApproved_0 0 rfl rfl)
theorem dX7_isApproved_1 : decode cX7_isApproved 1 = .ok (.istore_n 2, 1) := dk_61 (dk_at dksX7_isApproved_0 1 rfl rfl)
theorem dX7_isApproved_2 : decode cX7_isApproved 2 = .ok (.iconst 0, 1) := dk_3 (dk_at dksX7_isApproved_0 2 rfl rfl)
theorem dX7_isApproved_3 : decode cX7_isApproved 3 = .ok (.istore_n 3, 1) := dk_62 (dk_at dksX7_isApproved_0 3 rfl rfl)
theorem dX7_isApproved_4 : decode cX7_isApproved 4 = .ok (.iload_n 3, 1) := dk_29 (dk_at dksX7_isApproved_0 4 rfl rfl)
theorem dX7_isApproved_5 : decode cX7_isApproved 5 = .ok (.aload_n 0, 1) := dk_42 (dk_at dksX7_isApproved_0 5 rfl rfl)
theorem dX7_isApproved_6 : decode cX7_isApproved 6 = .ok (.getfield 21, 3) := dk_180 0 21 (dk_at dksX7_isApproved_0 6 rfl rfl)
theorem dX7_isApproved_9 : decode cX7_isApproved 9 = .ok (.getfield 44, 3) := dk_180 0 44 (dk_at dksX7_isApproved_0 9 rfl rfl)
theorem dX7_isApproved_12 : decode cX7_isApproved 12 = .ok (.if_icmp .ge 21, 3) := dk_162 0 21 (dk_at dksX7_isApproved_0 12 rfl rfl)
theorem dX7_isApproved_15 : decode cX7_isApproved 15 = .ok (.iload_n 2, 1) := dk_28 (dk_at dksX7_isApproved_0 15 rfl rfl)
theorem dX7_isApproved_16 : decode cX7_isApproved 16 = .ok (.aload_n 0, 1) := dk_42 (dk_at dksX7_isApproved_0 16 rfl rfl)
theorem dX7_isApproved_17 : decode cX7_isApproved 17 = .ok (.iload_n 1, 1) := dk_27 (dk_at dksX7_isApproved_0 17 rfl rfl)
theorem dX7_isApproved_18 : decode cX7_isApproved 18 = .ok (.iload_n 3, 1) := dk_29 (dk_at dksX7_isApproved_0 18 rfl rfl)
theorem dX7_isApproved_19 : decode cX7_isApproved 19 = .ok (.invokevirtual 63, 3) := dk_182 0 63 (dk_at dksX7_isApproved_0 19 rfl rfl)
theorem dX7_isApproved_22 : decode cX7_isApproved 22 = .ok (.getfield 71, 3) := dk_180 0 71 (dk_at dksX7_isApproved_1 0 rfl rfl)
theorem dX7_isApproved_25 : decode cX7_isApproved 25 = .ok (.iand, 1) := dk_126 (dk_at dksX7_isApproved_1 3 rfl rfl)
theorem dX7_isApproved_26 : decode cX7_isApproved 26 = .ok (.istore_n 2, 1) := dk_61 (dk_at dksX7_isApproved_1 4 rfl rfl)
theorem dX7_isApproved_27 : decode cX7_isApproved 27 = .ok (.iinc 3 1, 3) := dk_132 3 1 (dk_at dksX7_isApproved_1 5 rfl rfl)
theorem dX7_isApproved_30 : decode cX7_isApproved 30 = .ok (.goto (-26), 3) := dk_167 255 230 (dk_at dksX7_isApproved_1 8 rfl rfl)
theorem dX7_isApproved_33 : decode cX7_isApproved 33 = .ok (.iload_n 2, 1) := dk_28 (dk_at dksX7_isApproved_1 11 rfl rfl)
theorem dX7_isApproved_34 : decode cX7_isApproved 34 = .ok (.ireturn, 1) := dk_172 (dk_at dksX7_isApproved_1 12 rfl rfl)
abbrev cX7_plate : ByteArray := prog_10_method_6_code
def yX7_plate : MethodName := ⟨RX7, "plate", "(II)I"⟩
def dkwX7_plate_2 : List UInt8 := [96, 182, 0, 63, 182, 0, 67, 96, 172]
abbrev dktX7_plate_2 : List UInt8 := dkwX7_plate_2 ++ []
def dkwX7_plate_1 : List UInt8 := [4, 160, 0, 11, 18, 70, 21, 4, 96, 167, 0, 23, 17, 4, 176, 21, 4, 104, 42, 27, 28, 29, 104, 4]
abbrev dktX7_plate_1 : List UInt8 := dkwX7_plate_1 ++ dktX7_plate_2
def dkwX7_plate_0 : List UInt8 := [42, 180, 0, 21, 180, 0, 44, 5, 108, 62, 42, 27, 28, 29, 104, 182, 0, 63, 182, 0, 67, 54, 4, 29]
abbrev dktX7_plate_0 : List UInt8 := dkwX7_plate_0 ++ dktX7_plate_1
theorem dksX7_plate_0 : cX7_plate.data.toList.drop 0 = dktX7_plate_0 := by decide +kernel
theorem dksX7_plate_1 : cX7_plate.data.toList.drop 24 = dktX7_plate_1 := dk_seg dksX7_plate_0 24 rfl rfl
theorem dksX7_plate_2 : cX7_plate.data.toList.drop 48 = dktX7_plate_2 := dk_seg dksX7_plate_1 24 rfl rfl
theorem dX7_plate_0 : decode cX7_plate 0 = .ok (.aload_n 0, 1) := dk_42 (dk_at dksX7_plate_0 0 rfl rfl)
theorem dX7_plate_1 : decode cX7_plate 1 = .ok (.getfield 21, 3) := dk_180 0 21 (dk_at dksX7_plate_0 1 rfl rfl)
theorem dX7_plate_4 : decode cX7_plate 4 = .ok (.getfield 44, 3) := dk_180 0 44 (dk_at dksX7_plate_0 4 rfl rfl)
theorem dX7_plate_7 : decode cX7_plate 7 = .ok (.iconst 2, 1) := dk_5 (dk_at dksX7_plate_0 7 rfl rfl)
theorem dX7_plate_8 : decode cX7_plate 8 = .ok (.idiv, 1) := dk_108 (dk_at dksX7_plate_0 8 rfl rfl)
theorem dX7_plate_9 : decode cX7_plate 9 = .ok (.istore_n 3, 1) := dk_62 (dk_at dksX7_plate_0 9 rfl rfl)
theorem dX7_plate_10 : decode cX7_plate 10 = .ok (.aload_n 0, 1) := dk_42 (dk_at dksX7_plate_0 10 rfl rfl)
theorem dX7_plate_11 : decode cX7_plate 11 = .ok (.iload_n 1, 1) := dk_27 (dk_at dksX7_plate_0 11 rfl rfl)
theorem dX7_plate_12 : decode cX7_plate 12 = .ok (.iload_n 2, 1) := dk_28 (dk_at dksX7_plate_0 12 rfl rfl)
theorem dX7_plate_13 : decode cX7_plate 13 = .ok (.iload_n 3, 1) := dk_29 (dk_at dksX7_plate_0 13 rfl rfl)
theorem dX7_plate_14 : decode cX7_plate 14 = .ok (.imul, 1) := dk_104 (dk_at dksX7_plate_0 14 rfl rfl)
theorem dX7_plate_15 : decode cX7_plate 15 = .ok (.invokevirtual 63, 3) := dk_182 0 63 (dk_at dksX7_plate_0 15 rfl rfl)
theorem dX7_plate_18 : decode cX7_plate 18 = .ok (.invokevirtual 67, 3) := dk_182 0 67 (dk_at dksX7_plate_0 18 rfl rfl)
theorem dX7_plate_21 : decode cX7_plate 21 = .ok (.istore 4, 2) := dk_54 4 (dk_at dksX7_plate_0 21 rfl rfl)
theorem dX7_plate_23 : decode cX7_plate 23 = .ok (.iload_n 3, 1) := dk_29 (dk_at dksX7_plate_0 23 rfl rfl)
theorem dX7_plate_24 : decode cX7_plate 24 = .ok (.iconst 1, 1) := dk_4 (dk_at dksX7_plate_1 0 rfl rfl)
theorem dX7_plate_25 : decode cX7_plate 25 = .ok (.if_icmp .ne 11, 3) := dk_160 0 11 (dk_at dksX7_plate_1 1 rfl rfl)
theorem dX7_plate_28 : decode cX7_plate 28 = .ok (.ldc 70, 2) := dk_18 70 (dk_at dksX7_plate_1 4 rfl rfl)
theorem dX7_plate_30 : decode cX7_plate 30 = .ok (.iload 4, 2) := dk_21 4 (dk_at dksX7_plate_1 6 rfl rfl)
theorem dX7_plate_32 : decode cX7_plate 32 = .ok (.iadd, 1) := dk_96 (dk_at dksX7_plate_1 8 rfl rfl)
theorem dX7_plate_33 : decode cX7_plate 33 = .ok (.goto 23, 3) := dk_167 0 23 (dk_at dksX7_plate_1 9 rfl rfl)
theorem dX7_plate_36 : decode cX7_plate 36 = .ok (.sipush 1200, 3) := dk_17 4 176 (dk_at dksX7_plate_1 12 rfl rfl)
theorem dX7_plate_39 : decode cX7_plate 39 = .ok (.iload 4, 2) := dk_21 4 (dk_at dksX7_plate_1 15 rfl rfl)
theorem dX7_plate_41 : decode cX7_plate 41 = .ok (.imul, 1) := dk_104 (dk_at dksX7_plate_1 17 rfl rfl)
theorem dX7_plate_42 : decode cX7_plate 42 = .ok (.aload_n 0, 1) := dk_42 (dk_at dksX7_plate_1 18 rfl rfl)
theorem dX7_plate_43 : decode cX7_plate 43 = .ok (.iload_n 1, 1) := dk_27 (dk_at dksX7_plate_1 19 rfl rfl)
theorem dX7_plate_44 : decode cX7_plate 44 = .ok (.iload_n 2, 1) := dk_28 (dk_at dksX7_plate_1 20 rfl rfl)
theorem dX7_plate_45 : decode cX7_plate 45 = .ok (.iload_n 3, 1) := dk_29 (dk_at dksX7_plate_1 21 rfl rfl)
theorem dX7_plate_46 : decode cX7_plate 46 = .ok (.imul, 1) := dk_104 (dk_at dksX7_plate_1 22 rfl rfl)
theorem dX7_plate_47 : decode cX7_plate 47 = .ok (.iconst 1, 1) := dk_4 (dk_at dksX7_plate_1 23 rfl rfl)
theorem dX7_plate_48 : decode cX7_plate 48 = .ok (.iadd, 1) := dk_96 (dk_at dksX7_plate_2 0 rfl rfl)
theorem dX7_plate_49 : decode cX7_plate 49 = .ok (.invokevirtual 63, 3) := dk_182 0 63 (dk_at dksX7_plate_2 1 rfl rfl)
theorem dX7_plate_52 : decode cX7_plate 52 = .ok (.invokevirtual 67, 3) := dk_182 0 67 (dk_at dksX7_plate_2 4 rfl rfl)
theorem dX7_plate_55 : decode cX7_plate 55 = .ok (.iadd, 1) := dk_96 (dk_at dksX7_plate_2 7 rfl rfl)
theorem dX7_plate_56 : decode cX7_plate 56 = .ok (.ireturn, 1) := dk_172 (dk_at dksX7_plate_2 8 rfl rfl)
abbrev cX7_lacks : ByteArray := prog_10_method_10_code
def yX7_lacks : MethodName := ⟨RX7, "lacks", "(I)I"⟩
def dkwX7_lacks_2 : List UInt8 := [172]
abbrev dktX7_lacks_2 : List UInt8 := dkwX7_lacks_2 ++ []
def dkwX7_lacks_1 : List UInt8 := [185, 0, 57, 2, 0, 192, 0, 25, 182, 0, 88, 100, 184, 0, 91, 96, 61, 132, 3, 1, 167, 255, 220, 28]
abbrev dktX7_lacks_1 : List UInt8 := dkwX7_lacks_1 ++ dktX7_lacks_2
def dkwX7_lacks_0 : List UInt8 := [3, 61, 3, 62, 29, 42, 182, 0, 78, 162, 0, 34, 28, 3, 27, 42, 180, 0, 18, 29]
abbrev dktX7_lacks_0 : List UInt8 := dkwX7_lacks_0 ++ dktX7_lacks_1
theorem dksX7_lacks_0 : cX7_lacks.data.toList.drop 0 = dktX7_lacks_0 := by decide +kernel
theorem dksX7_lacks_1 : cX7_lacks.data.toList.drop 20 = dktX7_lacks_1 := dk_seg dksX7_lacks_0 20 rfl rfl
theorem dksX7_lacks_2 : cX7_lacks.data.toList.drop 44 = dktX7_lacks_2 := dk_seg dksX7_lacks_1 24 rfl rfl
theorem dX7_lacks_0 : decode cX7_lacks 0 = .ok (.iconst 0, 1) := dk_3 (dk_at dksX7_lacks_0 0 rfl rfl)
theorem dX7_lacks_1 : decode cX7_lacks 1 = .ok (.istore_n 2, 1) := dk_61 (dk_at dksX7_lacks_0 1 rfl rfl)
theorem dX7_lacks_2 : decode cX7_lacks 2 = .ok (.iconst 0, 1) := dk_3 (dk_at dksX7_lacks_0 2 rfl rfl)
theorem dX7_lacks_3 : decode cX7_lacks 3 = .ok (.istore_n 3, 1) := dk_62 (dk_at dksX7_lacks_0 3 rfl rfl)
theorem dX7_lacks_4 : decode cX7_lacks 4 = .ok (.iload_n 3, 1) := dk_29 (dk_at dksX7_lacks_0 4 rfl rfl)
theorem dX7_lacks_5 : decode cX7_lacks 5 = .ok (.aload_n 0, 1) := dk_42 (dk_at dksX7_lacks_0 5 rfl rfl)
theorem dX7_lacks_6 : decode cX7_lacks 6 = .ok (.invokevirtual 78, 3) := dk_182 0 78 (dk_at dksX7_lacks_0 6 rfl rfl)
theorem dX7_lacks_9 : decode cX7_lacks 9 = .ok (.if_icmp .ge 34, 3) := dk_162 0 34 (dk_at dksX7_lacks_0 9 rfl rfl)
theorem dX7_lacks_12 : decode cX7_lacks 12 = .ok (.iload_n 2, 1) := dk_28 (dk_at dksX7_lacks_0 12 rfl rfl)
theorem dX7_lacks_13 : decode cX7_lacks 13 = .ok (.iconst 0, 1) := dk_3 (dk_at dksX7_lacks_0 13 rfl rfl)
theorem dX7_lacks_14 : decode cX7_lacks 14 = .ok (.iload_n 1, 1) := dk_27 (dk_at dksX7_lacks_0 14 rfl rfl)
theorem dX7_lacks_15 : decode cX7_lacks 15 = .ok (.aload_n 0, 1) := dk_42 (dk_at dksX7_lacks_0 15 rfl rfl)
theorem dX7_lacks_16 : decode cX7_lacks 16 = .ok (.getfield 18, 3) := dk_180 0 18 (dk_at dksX7_lacks_0 16 rfl rfl)
theorem dX7_lacks_19 : decode cX7_lacks 19 = .ok (.iload_n 3, 1) := dk_29 (dk_at dksX7_lacks_0 19 rfl rfl)
theorem dX7_lacks_20 : decode cX7_lacks 20 = .ok (.invokeinterface 57 2, 5) := by decide +kernel
theorem dX7_lacks_25 : decode cX7_lacks 25 = .ok (.checkcast 25, 3) := dk_192 0 25 (dk_at dksX7_lacks_1 5 rfl rfl)
theorem dX7_lacks_28 : decode cX7_lacks 28 = .ok (.invokevirtual 88, 3) := dk_182 0 88 (dk_at dksX7_lacks_1 8 rfl rfl)
theorem dX7_lacks_31 : decode cX7_lacks 31 = .ok (.isub, 1) := dk_100 (dk_at dksX7_lacks_1 11 rfl rfl)
theorem dX7_lacks_32 : decode cX7_lacks 32 = .ok (.invokestatic 91, 3) := dk_184 0 91 (dk_at dksX7_lacks_1 12 rfl rfl)
theorem dX7_lacks_35 : decode cX7_lacks 35 = .ok (.iadd, 1) := dk_96 (dk_at dksX7_lacks_1 15 rfl rfl)
theorem dX7_lacks_36 : decode cX7_lacks 36 = .ok (.istore_n 2, 1) := dk_61 (dk_at dksX7_lacks_1 16 rfl rfl)
theorem dX7_lacks_37 : decode cX7_lacks 37 = .ok (.iinc 3 1, 3) := dk_132 3 1 (dk_at dksX7_lacks_1 17 rfl rfl)
theorem dX7_lacks_40 : decode cX7_lacks 40 = .ok (.goto (-36), 3) := dk_167 255 220 (dk_at dksX7_lacks_1 20 rfl rfl)
theorem dX7_lacks_43 : decode cX7_lacks 43 = .ok (.iload_n 2, 1) := dk_28 (dk_at dksX7_lacks_1 23 rfl rfl)
theorem dX7_lacks_44 : decode cX7_lacks 44 = .ok (.ireturn, 1) := dk_172 (dk_at dksX7_lacks_2 0 rfl rfl)
theorem q71 : (Jvm.Cond.initialized "BinderyDesk$Job") ∈ lw_all := lw_g (lw_at lw_m1 31 rfl) rfl
theorem q348 : (Jvm.Cond.fieldLinkNest "BinderyDesk$Job" (71 : Nat) "BinderyDesk$Content" "isApproved" "Z" "BinderyDesk") ∈ lw_tbl := lw_at lw_m2 68 rfl
theorem q401 : (Jvm.Cond.selects "BinderyDesk$Job" ({ cls := "java/lang/Object", name := "getClass", desc := "()Ljava/lang/Class;" } : Jvm.MethodName) ({ cls := "java/lang/Object", name := "getClass", desc := "()Ljava/lang/Class;" } : Jvm.MethodName)) ∈ lw_all := lw_g (lw_at lw_m2 121 rfl) rfl
theorem q625 : (Jvm.Cond.instanceMethod ({ cls := "BinderyDesk$Job", name := "takeOff", desc := "(LBinderyDesk$Content;)I" } : Jvm.MethodName)) ∈ lw_all := lw_g (lw_at lw_m3 105 rfl) rfl
theorem q626 : (Jvm.Cond.selects "BinderyDesk$Job" ({ cls := "BinderyDesk$Job", name := "takeOff", desc := "(LBinderyDesk$Content;)I" } : Jvm.MethodName) ({ cls := "BinderyDesk$Job", name := "takeOff", desc := "(LBinderyDesk$Content;)I" } : Jvm.MethodName)) ∈ lw_all := lw_g (lw_at lw_m3 106 rfl) rfl
theorem q627 : (Jvm.Cond.code ({ cls := "BinderyDesk$Job", name := "takeOff", desc := "(LBinderyDesk$Content;)I" } : Jvm.MethodName) prog_10_method_9_code (4 : Nat) (Option.some Jvm.ClassFile.FieldType.int)) ∈ lw_all := lw_g (lw_at lw_m3 107 rfl) rfl
theorem q628 : (Jvm.Cond.methodLink "BinderyDesk$Job" (75 : Nat) ({ cls := "BinderyDesk$Job", name := "isComplete", desc := "()Z" } : Jvm.MethodName)) ∈ lw_all := lw_g (lw_at lw_m3 108 rfl) rfl
theorem q629 : (Jvm.Cond.instanceMethod ({ cls := "BinderyDesk$Job", name := "isComplete", desc := "()Z" } : Jvm.MethodName)) ∈ lw_all := lw_g (lw_at lw_m3 109 rfl) rfl
theorem q630 : (Jvm.Cond.selects "BinderyDesk$Job" ({ cls := "BinderyDesk$Job", name := "isComplete", desc := "()Z" } : Jvm.MethodName) ({ cls := "BinderyDesk$Job", name := "isComplete", desc := "()Z" } : Jvm.MethodName)) ∈ lw_all := lw_g (lw_at lw_m3 110 rfl) rfl
theorem q631 : (Jvm.Cond.code ({ cls := "BinderyDesk$Job", name := "isComplete", desc := "()Z" } : Jvm.MethodName) prog_10_method_2_code (1 : Nat) (Option.some Jvm.ClassFile.FieldType.boolean)) ∈ lw_all := lw_g (lw_at lw_m3 111 rfl) rfl
theorem q632 : (Jvm.Cond.interfaceEntry "BinderyDesk$Job" (36 : Nat)) ∈ lw_tbl := lw_at lw_m3 112 rfl
theorem q633 : (Jvm.Cond.methodLink "BinderyDesk$Job" (36 : Nat) ({ cls := "java/util/List", name := "isEmpty", desc := "()Z" } : Jvm.MethodName)) ∈ lw_all := lw_g (lw_at lw_m3 113 rfl) rfl
theorem q641 : (Jvm.Cond.interfaceEntry "BinderyDesk$Job" (40 : Nat)) ∈ lw_tbl := lw_at lw_m3 121 rfl
theorem q642 : (Jvm.Cond.methodLink "BinderyDesk$Job" (40 : Nat) ({ cls := "java/util/List", name := "size", desc := "()I" } : Jvm.MethodName)) ∈ lw_all := lw_g (lw_at lw_m3 122 rfl) rfl
theorem q643 : (Jvm.Cond.methodLink "BinderyDesk$Job" (78 : Nat) ({ cls := "BinderyDesk$Job", name := "sheets", desc := "()I" } : Jvm.MethodName)) ∈ lw_all := lw_g (lw_at lw_m3 123 rfl) rfl
theorem q644 : (Jvm.Cond.instanceMethod ({ cls := "BinderyDesk$Job", name := "sheets", desc := "()I" } : Jvm.MethodName)) ∈ lw_all := lw_g (lw_at lw_m3 124 rfl) rfl
theorem q645 : (Jvm.Cond.selects "BinderyDesk$Job" ({ cls := "BinderyDesk$Job", name := "sheets", desc := "()I" } : Jvm.MethodName) ({ cls := "BinderyDesk$Job", name := "sheets", desc := "()I" } : Jvm.MethodName)) ∈ lw_all := lw_g (lw_at lw_m3 125 rfl) rfl
theorem q646 : (Jvm.Cond.code ({ cls := "BinderyDesk$Job", name := "sheets", desc := "()I" } : Jvm.MethodName) prog_10_method_3_code (1 : Nat) (Option.some Jvm.ClassFile.FieldType.int)) ∈ lw_all := lw_g (lw_at lw_m3 126 rfl) rfl
theorem q647 : (Jvm.Cond.methodLink "BinderyDesk$Job" (81 : Nat) ({ cls := "BinderyDesk$Job", name := "shows", desc := "(ILBinderyDesk$Content;)Z" } : Jvm.MethodName)) ∈ lw_all := lw_g (lw_at lw_m3 127 rfl) rfl
theorem q648 : (Jvm.Cond.instanceMethod ({ cls := "BinderyDesk$Job", name := "shows", desc := "(ILBinderyDesk$Content;)Z" } : Jvm.MethodName)) ∈ lw_all := lw_g (lw_at lw_m3 128 rfl) rfl
theorem q649 : (Jvm.Cond.selects "BinderyDesk$Job" ({ cls := "BinderyDesk$Job", name := "shows", desc := "(ILBinderyDesk$Content;)Z" } : Jvm.MethodName) ({ cls := "BinderyDesk$Job", name := "shows", desc := "(ILBinderyDesk$Content;)Z" } : Jvm.MethodName)) ∈ lw_all := lw_g (lw_at lw_m3 129 rfl) rfl
theorem q650 : (Jvm.Cond.code ({ cls := "BinderyDesk$Job", name := "shows", desc := "(ILBinderyDesk$Content;)Z" } : Jvm.MethodName) prog_10_method_7_code (5 : Nat) (Option.some Jvm.ClassFile.FieldType.boolean)) ∈ lw_all := lw_g (lw_at lw_m3 130 rfl) rfl
theorem q651 : (Jvm.Cond.methodLink "BinderyDesk$Job" (63 : Nat) ({ cls := "BinderyDesk$Job", name := "contentAt", desc := "(II)LBinderyDesk$Content;" } : Jvm.MethodName)) ∈ lw_all := lw_g (lw_at lw_m3 131 rfl) rfl
theorem q652 : (Jvm.Cond.instanceMethod ({ cls := "BinderyDesk$Job", name := "contentAt", desc := "(II)LBinderyDesk$Content;" } : Jvm.MethodName)) ∈ lw_all := lw_g (lw_at lw_m3 132 rfl) rfl
theorem q653 : (Jvm.Cond.selects "BinderyDesk$Job" ({ cls := "BinderyDesk$Job", name := "contentAt", desc := "(II)LBinderyDesk$Content;" } : Jvm.MethodName) ({ cls := "BinderyDesk$Job", name := "contentAt", desc := "(II)LBinderyDesk$Content;" } : Jvm.MethodName)) ∈ lw_all := lw_g (lw_at lw_m3 133 rfl) rfl
theorem q654 : (Jvm.Cond.code ({ cls := "BinderyDesk$Job", name := "contentAt", desc := "(II)LBinderyDesk$Content;" } : Jvm.MethodName) prog_10_method_5_code (3 : Nat) (Option.some (Jvm.ClassFile.FieldType.object "BinderyDesk$Content"))) ∈ lw_all := lw_g (lw_at lw_m3 134 rfl) rfl
theorem q655 : (Jvm.Cond.methodLink "BinderyDesk$Job" (54 : Nat) ({ cls := "BinderyDesk$Job", name := "pageAt", desc := "(II)I" } : Jvm.MethodName)) ∈ lw_all := lw_g (lw_at lw_m3 135 rfl) rfl
theorem q656 : (Jvm.Cond.instanceMethod ({ cls := "BinderyDesk$Job", name := "pageAt", desc := "(II)I" } : Jvm.MethodName)) ∈ lw_all := lw_g (lw_at lw_m3 136 rfl) rfl
theorem q657 : (Jvm.Cond.selects "BinderyDesk$Job" ({ cls := "BinderyDesk$Job", name := "pageAt", desc := "(II)I" } : Jvm.MethodName) ({ cls := "BinderyDesk$Job", name := "pageAt", desc := "(II)I" } : Jvm.MethodName)) ∈ lw_all := lw_g (lw_at lw_m3 137 rfl) rfl
theorem q658 : (Jvm.Cond.code ({ cls := "BinderyDesk$Job", name := "pageAt", desc := "(II)I" } : Jvm.MethodName) prog_10_method_4_code (3 : Nat) (Option.some Jvm.ClassFile.FieldType.int)) ∈ lw_all := lw_g (lw_at lw_m3 138 rfl) rfl
theorem q659 : (Jvm.Cond.methodLink "BinderyDesk$Job" (50 : Nat) ({ cls := "BinderyDesk$Binding", name := "pageAt", desc := "(III)I" } : Jvm.MethodName)) ∈ lw_all := lw_g (lw_at lw_m3 139 rfl) rfl
theorem q671 : (Jvm.Cond.interfaceEntry "BinderyDesk$Job" (57 : Nat)) ∈ lw_tbl := lw_at lw_m3 151 rfl
theorem q672 : (Jvm.Cond.methodLink "BinderyDesk$Job" (57 : Nat) ({ cls := "java/util/List", name := "get", desc := "(I)Ljava/lang/Object;" } : Jvm.MethodName)) ∈ lw_all := lw_g (lw_at lw_m3 152 rfl) rfl
theorem q673 : (Jvm.Cond.classLink "BinderyDesk$Job" (61 : Nat) "BinderyDesk$Content") ∈ lw_all := lw_g (lw_at lw_m3 153 rfl) rfl
theorem q674 : (Jvm.Cond.classLink "BinderyDesk$Job" (25 : Nat) "BinderyDesk$SheetPile") ∈ lw_all := lw_g (lw_at lw_m3 154 rfl) rfl
theorem q675 : (Jvm.Cond.methodLink "BinderyDesk$Job" (85 : Nat) ({ cls := "BinderyDesk$SheetPile", name := "takeAll", desc := "()I" } : Jvm.MethodName)) ∈ lw_all := lw_g (lw_at lw_m3 155 rfl) rfl
theorem q750 : (Jvm.Cond.instantiable "BinderyDesk$Job" (3 : Nat)) ∈ lw_all := lw_g (lw_at lw_m3 230 rfl) rfl
theorem q752 : (Jvm.Cond.instanceMethod ({ cls := "BinderyDesk$Job", name := "<init>", desc := "(LBinderyDesk$Binding;LBinderyDesk$Counter;)V" } : Jvm.MethodName)) ∈ lw_all := lw_g (lw_at lw_m3 232 rfl) rfl
theorem q753 : (Jvm.Cond.code ({ cls := "BinderyDesk$Job", name := "<init>", desc := "(LBinderyDesk$Binding;LBinderyDesk$Counter;)V" } : Jvm.MethodName) prog_10_method_1_code (4 : Nat) (Option.none : Option Jvm.ClassFile.FieldType)) ∈ lw_all := lw_g (lw_at lw_m3 233 rfl) rfl
theorem q754 : (Jvm.Cond.methodLink "BinderyDesk$Job" (3 : Nat) ({ cls := "java/lang/Object", name := "<init>", desc := "()V" } : Jvm.MethodName)) ∈ lw_all := lw_g (lw_at lw_m3 234 rfl) rfl
theorem q755 : (Jvm.Cond.classLink "BinderyDesk$Job" (9 : Nat) "java/util/ArrayList") ∈ lw_all := lw_g (lw_at lw_m3 235 rfl) rfl
theorem q756 : (Jvm.Cond.methodLink "BinderyDesk$Job" (11 : Nat) ({ cls := "java/util/ArrayList", name := "<init>", desc := "()V" } : Jvm.MethodName)) ∈ lw_all := lw_g (lw_at lw_m3 236 rfl) rfl
theorem q758 : (Jvm.Cond.methodLink "BinderyDesk$Job" (27 : Nat) ({ cls := "BinderyDesk$SheetPile", name := "<init>", desc := "(LBinderyDesk$Counter;)V" } : Jvm.MethodName)) ∈ lw_all := lw_g (lw_at lw_m3 238 rfl) rfl
theorem q769 : (Jvm.Cond.interfaceEntry "BinderyDesk$Job" (30 : Nat)) ∈ lw_tbl := lw_at lw_m4 9 rfl
theorem q770 : (Jvm.Cond.methodLink "BinderyDesk$Job" (30 : Nat) ({ cls := "java/util/List", name := "add", desc := "(Ljava/lang/Object;)Z" } : Jvm.MethodName)) ∈ lw_all := lw_g (lw_at lw_m4 10 rfl) rfl
theorem q771 : (Jvm.Cond.fieldLink "BinderyDesk$Job" (21 : Nat) "BinderyDesk$Job" "binding" "LBinderyDesk$Binding;") ∈ lw_all := lw_g (lw_at lw_m4 11 rfl) rfl
theorem q773 : (Jvm.Cond.fieldLink "BinderyDesk$Job" (12 : Nat) "BinderyDesk$Job" "pages" "Ljava/util/List;") ∈ lw_all := lw_g (lw_at lw_m4 13 rfl) rfl
theorem q775 : (Jvm.Cond.fieldLink "BinderyDesk$Job" (18 : Nat) "BinderyDesk$Job" "piles" "Ljava/util/List;") ∈ lw_all := lw_g (lw_at lw_m4 15 rfl) rfl
theorem q777 : (Jvm.Cond.laysFinal "BinderyDesk$Job" "BinderyDesk$Job" "binding" "LBinderyDesk$Binding;") ∈ lw_all := lw_g (lw_at lw_m4 17 rfl) rfl
theorem q778 : (Jvm.Cond.soleField "BinderyDesk$Job" "binding") ∈ lw_all := lw_g (lw_at lw_m4 18 rfl) rfl
theorem q779 : (Jvm.Cond.laysFinal "BinderyDesk$Job" "BinderyDesk$Job" "pages" "Ljava/util/List;") ∈ lw_all := lw_g (lw_at lw_m4 19 rfl) rfl
theorem q780 : (Jvm.Cond.soleField "BinderyDesk$Job" "pages") ∈ lw_all := lw_g (lw_at lw_m4 20 rfl) rfl
theorem q781 : (Jvm.Cond.laysFinal "BinderyDesk$Job" "BinderyDesk$Job" "piles" "Ljava/util/List;") ∈ lw_all := lw_g (lw_at lw_m4 21 rfl) rfl
theorem q782 : (Jvm.Cond.soleField "BinderyDesk$Job" "piles") ∈ lw_all := lw_g (lw_at lw_m4 22 rfl) rfl
theorem q783 : (Jvm.Cond.superclass "BinderyDesk$Job" "java/lang/Object") ∈ lw_all := lw_g (lw_at lw_m4 23 rfl) rfl
theorem q855 : (Jvm.Cond.instanceMethod ({ cls := "BinderyDesk$Job", name := "isApproved", desc := "(I)Z" } : Jvm.MethodName)) ∈ lw_all := lw_g (lw_at lw_m4 95 rfl) rfl
theorem q856 : (Jvm.Cond.selects "BinderyDesk$Job" ({ cls := "BinderyDesk$Job", name := "isApproved", desc := "(I)Z" } : Jvm.MethodName) ({ cls := "BinderyDesk$Job", name := "isApproved", desc := "(I)Z" } : Jvm.MethodName)) ∈ lw_all := lw_g (lw_at lw_m4 96 rfl) rfl
theorem q857 : (Jvm.Cond.code ({ cls := "BinderyDesk$Job", name := "isApproved", desc := "(I)Z" } : Jvm.MethodName) prog_10_method_8_code (4 : Nat) (Option.some Jvm.ClassFile.FieldType.boolean)) ∈ lw_all := lw_g (lw_at lw_m4 97 rfl) rfl
theorem q882 : (Jvm.Cond.instanceMethod ({ cls := "BinderyDesk$Job", name := "plate", desc := "(II)I" } : Jvm.MethodName)) ∈ lw_all := lw_g (lw_at lw_m4 122 rfl) rfl
theorem q883 : (Jvm.Cond.selects "BinderyDesk$Job" ({ cls := "BinderyDesk$Job", name := "plate", desc := "(II)I" } : Jvm.MethodName) ({ cls := "BinderyDesk$Job", name := "plate", desc := "(II)I" } : Jvm.MethodName)) ∈ lw_all := lw_g (lw_at lw_m4 123 rfl) rfl
theorem q884 : (Jvm.Cond.code ({ cls := "BinderyDesk$Job", name := "plate", desc := "(II)I" } : Jvm.MethodName) prog_10_method_6_code (5 : Nat) (Option.some Jvm.ClassFile.FieldType.int)) ∈ lw_all := lw_g (lw_at lw_m4 124 rfl) rfl
theorem q885 : (Jvm.Cond.methodLink "BinderyDesk$Job" (67 : Nat) ({ cls := "BinderyDesk$Content", name := "sign", desc := "()I" } : Jvm.MethodName)) ∈ lw_all := lw_g (lw_at lw_m4 125 rfl) rfl
theorem q889 : (Jvm.Cond.constant "BinderyDesk$Job" (70 : Nat) (1440000 : Int32)) ∈ lw_all := lw_g (lw_at lw_m4 129 rfl) rfl
theorem q1333 : (Jvm.Cond.selects "BinderyDesk$Job" ({ cls := "java/lang/Object", name := "equals", desc := "(Ljava/lang/Object;)Z" } : Jvm.MethodName) ({ cls := "java/lang/Object", name := "equals", desc := "(Ljava/lang/Object;)Z" } : Jvm.MethodName)) ∈ lw_all := lw_g (lw_at lw_m6 93 rfl) rfl
theorem q1405 : (Jvm.Cond.instanceMethod ({ cls := "BinderyDesk$Job", name := "lacks", desc := "(I)I" } : Jvm.MethodName)) ∈ lw_all := lw_g (lw_at lw_m6 165 rfl) rfl
theorem q1406 : (Jvm.Cond.selects "BinderyDesk$Job" ({ cls := "BinderyDesk$Job", name := "lacks", desc := "(I)I" } : Jvm.MethodName) ({ cls := "BinderyDesk$Job", name := "lacks", desc := "(I)I" } : Jvm.MethodName)) ∈ lw_all := lw_g (lw_at lw_m6 166 rfl) rfl
theorem q1407 : (Jvm.Cond.code ({ cls := "BinderyDesk$Job", name := "lacks", desc := "(I)I" } : Jvm.MethodName) prog_10_method_10_code (4 : Nat) (Option.some Jvm.ClassFile.FieldType.int)) ∈ lw_all := lw_g (lw_at lw_m6 167 rfl) rfl
theorem q1408 : (Jvm.Cond.methodLink "BinderyDesk$Job" (88 : Nat) ({ cls := "BinderyDesk$SheetPile", name := "stock", desc := "()I" } : Jvm.MethodName)) ∈ lw_all := lw_g (lw_at lw_m6 168 rfl) rfl
theorem q1409 : (Jvm.Cond.methodLink "BinderyDesk$Job" (91 : Nat) ({ cls := "java/lang/Math", name := "max", desc := "(II)I" } : Jvm.MethodName)) ∈ lw_all := lw_g (lw_at lw_m6 169 rfl) rfl
theorem q1880 : (Jvm.Cond.castable "BinderyDesk$Job" "java/lang/Object") ∈ lw_tbl := lw_at lw_m8 160 rfl
theorem q1905 : (Jvm.Cond.fieldLinkNest "BinderyDesk$Job" (44 : Nat) "BinderyDesk$Binding" "places" "I" "BinderyDesk") ∈ lw_tbl := lw_at lw_m8 185 rfl
theorem in_X7 : ∀ w ∈ wsX70, w ∈ lw_all := lw_in wsX70 [777, 779, 781] (by decide +kernel) (by decide +kernel)

/-! BinderyDesk$Pile -/
set_option maxRecDepth 100000
def RX8 : String := "BinderyDesk$Pile"
abbrev cX8_stock : ByteArray := prog_12_method_2_code
def yX8_stock : MethodName := ⟨RX8, "stock", "()I"⟩
def dkwX8_stock_0 : List UInt8 := [42, 182, 0, 7, 136, 172]
abbrev dktX8_stock_0 : List UInt8 := dkwX8_stock_0 ++ []
theorem dksX8_stock_0 : cX8_stock.data.toList.drop 0 = dktX8_stock_0 := by decide +kernel
theorem dX8_stock_0 : decode cX8_stock 0 = .ok (.aload_n 0, 1) := dk_42 (dk_at dksX8_stock_0 0 rfl rfl)
theorem dX8_stock_1 : decode cX8_stock 1 = .ok (.invokevirtual 7, 3) := dk_182 0 7 (dk_at dksX8_stock_0 1 rfl rfl)
theorem dX8_stock_4 : decode cX8_stock 4 = .ok (.l2i, 1) := dk_136 (dk_at dksX8_stock_0 4 rfl rfl)
theorem dX8_stock_5 : decode cX8_stock 5 = .ok (.ireturn, 1) := dk_172 (dk_at dksX8_stock_0 5 rfl rfl)
abbrev cX8_init : ByteArray := prog_12_method_1_code
def yX8_init : MethodName := ⟨RX8, "<init>", "()V"⟩
theorem dX8_init_0 : decode cX8_init 0 = .ok (.aload_n 0, 1) := by decide +kernel
theorem dX8_init_1 : decode cX8_init 1 = .ok (.invokespecial 1, 3) := by decide +kernel
theorem dX8_init_4 : decode cX8_init 4 = .ok (.return_, 1) := by decide +kernel
theorem q72 : (Jvm.Cond.initialized "BinderyDesk$Pile") ∈ lw_all := lw_g (lw_at lw_m1 32 rfl) rfl
theorem q681 : (Jvm.Cond.declares ({ cls := "BinderyDesk$Pile", name := "stock", desc := "()I" } : Jvm.MethodName)) ∈ lw_tbl := lw_at lw_m3 161 rfl
theorem q683 : (Jvm.Cond.instanceMethod ({ cls := "BinderyDesk$Pile", name := "stock", desc := "()I" } : Jvm.MethodName)) ∈ lw_all := lw_g (lw_at lw_m3 163 rfl) rfl
theorem q684 : (Jvm.Cond.code ({ cls := "BinderyDesk$Pile", name := "stock", desc := "()I" } : Jvm.MethodName) prog_12_method_2_code (1 : Nat) (Option.some Jvm.ClassFile.FieldType.int)) ∈ lw_all := lw_g (lw_at lw_m3 164 rfl) rfl
theorem q685 : (Jvm.Cond.methodLink "BinderyDesk$Pile" (7 : Nat) ({ cls := "BinderyDesk$Pile", name := "count", desc := "()J" } : Jvm.MethodName)) ∈ lw_all := lw_g (lw_at lw_m3 165 rfl) rfl
theorem q686 : (Jvm.Cond.sameMethod "BinderyDesk$Pile" "BinderyDesk$Counter" "count" "()J") ∈ lw_all := lw_g (lw_at lw_m3 166 rfl) rfl
theorem q694 : (Jvm.Cond.sameMethod "BinderyDesk$Pile" "BinderyDesk$Counter" "add" "(I)V") ∈ lw_all := lw_g (lw_at lw_m3 174 rfl) rfl
theorem q697 : (Jvm.Cond.superclass "BinderyDesk$Pile" "BinderyDesk$Counter") ∈ lw_all := lw_g (lw_at lw_m3 177 rfl) rfl
theorem q762 : (Jvm.Cond.instanceMethod ({ cls := "BinderyDesk$Pile", name := "<init>", desc := "()V" } : Jvm.MethodName)) ∈ lw_all := lw_g (lw_at lw_m4 2 rfl) rfl
theorem q763 : (Jvm.Cond.code ({ cls := "BinderyDesk$Pile", name := "<init>", desc := "()V" } : Jvm.MethodName) prog_12_method_1_code (1 : Nat) (Option.none : Option Jvm.ClassFile.FieldType)) ∈ lw_all := lw_g (lw_at lw_m4 3 rfl) rfl
theorem q764 : (Jvm.Cond.methodLinkNest "BinderyDesk$Pile" (1 : Nat) ({ cls := "BinderyDesk$Counter", name := "<init>", desc := "()V" } : Jvm.MethodName) "BinderyDesk") ∈ lw_tbl := lw_at lw_m4 4 rfl

/-! BinderyDesk$SheetPile -/
set_option maxRecDepth 100000
def RX9 : String := "BinderyDesk$SheetPile"
def TX9 : u_T := fun k => match k with
  | 0 => ("BinderyDesk$Counter", "count", "J", false)
  | _ => ("BinderyDesk$SheetPile", "printed", "LBinderyDesk$Counter;", true)
def tyX9 : Nat → FieldType := fun k => match k with
  | 0 => .long
  | _ => .object "BinderyDesk$Counter"
abbrev wsX90 : List Cond := u_ws RX9 TX9 2
theorem nmX9 : ∀ a, a < 2 → ∀ b, b < 2 → a ≠ b → (TX9 a).2.1 ≠ (TX9 b).2.1 := by decide +kernel
theorem tyX9_ok : ∀ k, k < 2 → parseFieldDescriptor (TX9 k).2.2.1 = some (tyX9 k) := by decide +kernel
abbrev cX9_takeAll : ByteArray := prog_13_method_4_code
def yX9_takeAll : MethodName := ⟨RX9, "takeAll", "()I"⟩
def dkwX9_takeAll_0 : List UInt8 := [42, 182, 0, 20, 60, 42, 27, 182, 0, 24, 27, 172]
abbrev dktX9_takeAll_0 : List UInt8 := dkwX9_takeAll_0 ++ []
theorem dksX9_takeAll_0 : cX9_takeAll.data.toList.drop 0 = dktX9_takeAll_0 := by decide +kernel
theorem dX9_takeAll_0 : decode cX9_takeAll 0 = .ok (.aload_n 0, 1) := dk_42 (dk_at dksX9_takeAll_0 0 rfl rfl)
theorem dX9_takeAll_1 : decode cX9_takeAll 1 = .ok (.invokevirtual 20, 3) := dk_182 0 20 (dk_at dksX9_takeAll_0 1 rfl rfl)
theorem dX9_takeAll_4 : decode cX9_takeAll 4 = .ok (.istore_n 1, 1) := dk_60 (dk_at dksX9_takeAll_0 4 rfl rfl)
theorem dX9_takeAll_5 : decode cX9_takeAll 5 = .ok (.aload_n 0, 1) := dk_42 (dk_at dksX9_takeAll_0 5 rfl rfl)
theorem dX9_takeAll_6 : decode cX9_takeAll 6 = .ok (.iload_n 1, 1) := dk_27 (dk_at dksX9_takeAll_0 6 rfl rfl)
theorem dX9_takeAll_7 : decode cX9_takeAll 7 = .ok (.invokevirtual 24, 3) := dk_182 0 24 (dk_at dksX9_takeAll_0 7 rfl rfl)
theorem dX9_takeAll_10 : decode cX9_takeAll 10 = .ok (.iload_n 1, 1) := dk_27 (dk_at dksX9_takeAll_0 10 rfl rfl)
theorem dX9_takeAll_11 : decode cX9_takeAll 11 = .ok (.ireturn, 1) := dk_172 (dk_at dksX9_takeAll_0 11 rfl rfl)
abbrev cX9_take : ByteArray := prog_13_method_3_code
def yX9_take : MethodName := ⟨RX9, "take", "(I)V"⟩
def dkwX9_take_0 : List UInt8 := [42, 27, 116, 183, 0, 13, 177]
abbrev dktX9_take_0 : List UInt8 := dkwX9_take_0 ++ []
theorem dksX9_take_0 : cX9_take.data.toList.drop 0 = dktX9_take_0 := by decide +kernel
theorem dX9_take_0 : decode cX9_take 0 = .ok (.aload_n 0, 1) := dk_42 (dk_at dksX9_take_0 0 rfl rfl)
theorem dX9_take_1 : decode cX9_take 1 = .ok (.iload_n 1, 1) := dk_27 (dk_at dksX9_take_0 1 rfl rfl)
theorem dX9_take_2 : decode cX9_take 2 = .ok (.ineg, 1) := dk_116 (dk_at dksX9_take_0 2 rfl rfl)
theorem dX9_take_3 : decode cX9_take 3 = .ok (.invokespecial 13, 3) := dk_183 0 13 (dk_at dksX9_take_0 3 rfl rfl)
theorem dX9_take_6 : decode cX9_take 6 = .ok (.return_, 1) := dk_177 (dk_at dksX9_take_0 6 rfl rfl)
abbrev cX9_add : ByteArray := prog_13_method_2_code
def yX9_add : MethodName := ⟨RX9, "add", "(I)V"⟩
def dkwX9_add_0 : List UInt8 := [42, 27, 183, 0, 13, 42, 180, 0, 7, 27, 182, 0, 17, 177]
abbrev dktX9_add_0 : List UInt8 := dkwX9_add_0 ++ []
theorem dksX9_add_0 : cX9_add.data.toList.drop 0 = dktX9_add_0 := by decide +kernel
theorem dX9_add_0 : decode cX9_add 0 = .ok (.aload_n 0, 1) := dk_42 (dk_at dksX9_add_0 0 rfl rfl)
theorem dX9_add_1 : decode cX9_add 1 = .ok (.iload_n 1, 1) := dk_27 (dk_at dksX9_add_0 1 rfl rfl)
theorem dX9_add_2 : decode cX9_add 2 = .ok (.invokespecial 13, 3) := dk_183 0 13 (dk_at dksX9_add_0 2 rfl rfl)
theorem dX9_add_5 : decode cX9_add 5 = .ok (.aload_n 0, 1) := dk_42 (dk_at dksX9_add_0 5 rfl rfl)
theorem dX9_add_6 : decode cX9_add 6 = .ok (.getfield 7, 3) := dk_180 0 7 (dk_at dksX9_add_0 6 rfl rfl)
theorem dX9_add_9 : decode cX9_add 9 = .ok (.iload_n 1, 1) := dk_27 (dk_at dksX9_add_0 9 rfl rfl)
theorem dX9_add_10 : decode cX9_add 10 = .ok (.invokevirtual 17, 3) := dk_182 0 17 (dk_at dksX9_add_0 10 rfl rfl)
theorem dX9_add_13 : decode cX9_add 13 = .ok (.return_, 1) := dk_177 (dk_at dksX9_add_0 13 rfl rfl)
abbrev cX9_init : ByteArray := prog_13_method_1_code
def yX9_init : MethodName := ⟨RX9, "<init>", "(LBinderyDesk$Counter;)V"⟩
def dkwX9_init_0 : List UInt8 := [42, 183, 0, 1, 42, 43, 181, 0, 7, 177]
abbrev dktX9_init_0 : List UInt8 := dkwX9_init_0 ++ []
theorem dksX9_init_0 : cX9_init.data.toList.drop 0 = dktX9_init_0 := by decide +kernel
theorem dX9_init_0 : decode cX9_init 0 = .ok (.aload_n 0, 1) := dk_42 (dk_at dksX9_init_0 0 rfl rfl)
theorem dX9_init_1 : decode cX9_init 1 = .ok (.invokespecial 1, 3) := dk_183 0 1 (dk_at dksX9_init_0 1 rfl rfl)
theorem dX9_init_4 : decode cX9_init 4 = .ok (.aload_n 0, 1) := dk_42 (dk_at dksX9_init_0 4 rfl rfl)
theorem dX9_init_5 : decode cX9_init 5 = .ok (.aload_n 1, 1) := dk_43 (dk_at dksX9_init_0 5 rfl rfl)
theorem dX9_init_6 : decode cX9_init 6 = .ok (.putfield 7, 3) := dk_181 0 7 (dk_at dksX9_init_0 6 rfl rfl)
theorem dX9_init_9 : decode cX9_init 9 = .ok (.return_, 1) := dk_177 (dk_at dksX9_init_0 9 rfl rfl)
theorem q73 : (Jvm.Cond.initialized "BinderyDesk$SheetPile") ∈ lw_all := lw_g (lw_at lw_m1 33 rfl) rfl
theorem q256 : (Jvm.Cond.selects "BinderyDesk$SheetPile" ({ cls := "BinderyDesk$Counter", name := "count", desc := "()J" } : Jvm.MethodName) ({ cls := "BinderyDesk$Counter", name := "count", desc := "()J" } : Jvm.MethodName)) ∈ lw_all := lw_g (lw_at lw_m1 216 rfl) rfl
theorem q403 : (Jvm.Cond.selects "BinderyDesk$SheetPile" ({ cls := "java/lang/Object", name := "getClass", desc := "()Ljava/lang/Class;" } : Jvm.MethodName) ({ cls := "java/lang/Object", name := "getClass", desc := "()Ljava/lang/Class;" } : Jvm.MethodName)) ∈ lw_all := lw_g (lw_at lw_m2 123 rfl) rfl
theorem q676 : (Jvm.Cond.instanceMethod ({ cls := "BinderyDesk$SheetPile", name := "takeAll", desc := "()I" } : Jvm.MethodName)) ∈ lw_all := lw_g (lw_at lw_m3 156 rfl) rfl
theorem q677 : (Jvm.Cond.selects "BinderyDesk$SheetPile" ({ cls := "BinderyDesk$SheetPile", name := "takeAll", desc := "()I" } : Jvm.MethodName) ({ cls := "BinderyDesk$SheetPile", name := "takeAll", desc := "()I" } : Jvm.MethodName)) ∈ lw_all := lw_g (lw_at lw_m3 157 rfl) rfl
theorem q678 : (Jvm.Cond.code ({ cls := "BinderyDesk$SheetPile", name := "takeAll", desc := "()I" } : Jvm.MethodName) prog_13_method_4_code (2 : Nat) (Option.some Jvm.ClassFile.FieldType.int)) ∈ lw_all := lw_g (lw_at lw_m3 158 rfl) rfl
theorem q679 : (Jvm.Cond.methodLink "BinderyDesk$SheetPile" (20 : Nat) ({ cls := "BinderyDesk$SheetPile", name := "stock", desc := "()I" } : Jvm.MethodName)) ∈ lw_all := lw_g (lw_at lw_m3 159 rfl) rfl
theorem q680 : (Jvm.Cond.sameMethod "BinderyDesk$SheetPile" "BinderyDesk$Pile" "stock" "()I") ∈ lw_all := lw_g (lw_at lw_m3 160 rfl) rfl
theorem q682 : (Jvm.Cond.selects "BinderyDesk$SheetPile" ({ cls := "BinderyDesk$SheetPile", name := "stock", desc := "()I" } : Jvm.MethodName) ({ cls := "BinderyDesk$Pile", name := "stock", desc := "()I" } : Jvm.MethodName)) ∈ lw_all := lw_g (lw_at lw_m3 162 rfl) rfl
theorem q688 : (Jvm.Cond.selects "BinderyDesk$SheetPile" ({ cls := "BinderyDesk$Pile", name := "count", desc := "()J" } : Jvm.MethodName) ({ cls := "BinderyDesk$Counter", name := "count", desc := "()J" } : Jvm.MethodName)) ∈ lw_all := lw_g (lw_at lw_m3 168 rfl) rfl
theorem q689 : (Jvm.Cond.methodLink "BinderyDesk$SheetPile" (24 : Nat) ({ cls := "BinderyDesk$SheetPile", name := "take", desc := "(I)V" } : Jvm.MethodName)) ∈ lw_all := lw_g (lw_at lw_m3 169 rfl) rfl
theorem q690 : (Jvm.Cond.instanceMethod ({ cls := "BinderyDesk$SheetPile", name := "take", desc := "(I)V" } : Jvm.MethodName)) ∈ lw_all := lw_g (lw_at lw_m3 170 rfl) rfl
theorem q691 : (Jvm.Cond.selects "BinderyDesk$SheetPile" ({ cls := "BinderyDesk$SheetPile", name := "take", desc := "(I)V" } : Jvm.MethodName) ({ cls := "BinderyDesk$SheetPile", name := "take", desc := "(I)V" } : Jvm.MethodName)) ∈ lw_all := lw_g (lw_at lw_m3 171 rfl) rfl
theorem q692 : (Jvm.Cond.code ({ cls := "BinderyDesk$SheetPile", name := "take", desc := "(I)V" } : Jvm.MethodName) prog_13_method_3_code (2 : Nat) (Option.none : Option Jvm.ClassFile.FieldType)) ∈ lw_all := lw_g (lw_at lw_m3 172 rfl) rfl
theorem q693 : (Jvm.Cond.methodLink "BinderyDesk$SheetPile" (13 : Nat) ({ cls := "BinderyDesk$Pile", name := "add", desc := "(I)V" } : Jvm.MethodName)) ∈ lw_all := lw_g (lw_at lw_m3 173 rfl) rfl
theorem q696 : (Jvm.Cond.superclass "BinderyDesk$SheetPile" "BinderyDesk$Pile") ∈ lw_all := lw_g (lw_at lw_m3 176 rfl) rfl
theorem q701 : (Jvm.Cond.instanceMethod ({ cls := "BinderyDesk$SheetPile", name := "add", desc := "(I)V" } : Jvm.MethodName)) ∈ lw_all := lw_g (lw_at lw_m3 181 rfl) rfl
theorem q702 : (Jvm.Cond.code ({ cls := "BinderyDesk$SheetPile", name := "add", desc := "(I)V" } : Jvm.MethodName) prog_13_method_2_code (2 : Nat) (Option.none : Option Jvm.ClassFile.FieldType)) ∈ lw_all := lw_g (lw_at lw_m3 182 rfl) rfl
theorem q703 : (Jvm.Cond.methodLink "BinderyDesk$SheetPile" (17 : Nat) ({ cls := "BinderyDesk$Counter", name := "add", desc := "(I)V" } : Jvm.MethodName)) ∈ lw_all := lw_g (lw_at lw_m3 183 rfl) rfl
theorem q757 : (Jvm.Cond.instantiable "BinderyDesk$SheetPile" (2 : Nat)) ∈ lw_all := lw_g (lw_at lw_m3 237 rfl) rfl
theorem q759 : (Jvm.Cond.instanceMethod ({ cls := "BinderyDesk$SheetPile", name := "<init>", desc := "(LBinderyDesk$Counter;)V" } : Jvm.MethodName)) ∈ lw_all := lw_g (lw_at lw_m3 239 rfl) rfl
theorem q760 : (Jvm.Cond.code ({ cls := "BinderyDesk$SheetPile", name := "<init>", desc := "(LBinderyDesk$Counter;)V" } : Jvm.MethodName) prog_13_method_1_code (2 : Nat) (Option.none : Option Jvm.ClassFile.FieldType)) ∈ lw_all := lw_g (lw_at lw_m4 0 rfl) rfl
theorem q761 : (Jvm.Cond.methodLinkNest "BinderyDesk$SheetPile" (1 : Nat) ({ cls := "BinderyDesk$Pile", name := "<init>", desc := "()V" } : Jvm.MethodName) "BinderyDesk") ∈ lw_tbl := lw_at lw_m4 1 rfl
theorem q765 : (Jvm.Cond.fieldLink "BinderyDesk$SheetPile" (7 : Nat) "BinderyDesk$SheetPile" "printed" "LBinderyDesk$Counter;") ∈ lw_all := lw_g (lw_at lw_m4 5 rfl) rfl
theorem q766 : (Jvm.Cond.laysFinal "BinderyDesk$SheetPile" "BinderyDesk$SheetPile" "printed" "LBinderyDesk$Counter;") ∈ lw_all := lw_g (lw_at lw_m4 6 rfl) rfl
theorem q767 : (Jvm.Cond.soleField "BinderyDesk$SheetPile" "printed") ∈ lw_all := lw_g (lw_at lw_m4 7 rfl) rfl
theorem q768 : (Jvm.Cond.lays "BinderyDesk$SheetPile" "BinderyDesk$Counter" "count" "J") ∈ lw_all := lw_g (lw_at lw_m4 8 rfl) rfl
theorem q1335 : (Jvm.Cond.selects "BinderyDesk$SheetPile" ({ cls := "java/lang/Object", name := "equals", desc := "(Ljava/lang/Object;)Z" } : Jvm.MethodName) ({ cls := "java/lang/Object", name := "equals", desc := "(Ljava/lang/Object;)Z" } : Jvm.MethodName)) ∈ lw_all := lw_g (lw_at lw_m6 95 rfl) rfl
theorem q1847 : (Jvm.Cond.selects "BinderyDesk$SheetPile" ({ cls := "BinderyDesk$Counter", name := "add", desc := "(I)V" } : Jvm.MethodName) ({ cls := "BinderyDesk$SheetPile", name := "add", desc := "(I)V" } : Jvm.MethodName)) ∈ lw_all := lw_g (lw_at lw_m8 127 rfl) rfl
theorem q1848 : (Jvm.Cond.selects "BinderyDesk$SheetPile" ({ cls := "BinderyDesk$SheetPile", name := "add", desc := "(I)V" } : Jvm.MethodName) ({ cls := "BinderyDesk$SheetPile", name := "add", desc := "(I)V" } : Jvm.MethodName)) ∈ lw_all := lw_g (lw_at lw_m8 128 rfl) rfl
theorem q1881 : (Jvm.Cond.castable "BinderyDesk$SheetPile" "java/lang/Object") ∈ lw_tbl := lw_at lw_m8 161 rfl
theorem in_X9 : ∀ w ∈ wsX90, w ∈ lw_all := lw_in wsX90 [768, 766] (by decide +kernel) (by decide +kernel)

/-! BinderyDesk$Lot -/
set_option maxRecDepth 100000
def RX10 : String := "BinderyDesk$Lot"
def TX10 : u_T := fun k => match k with
  | 0 => ("BinderyDesk$Lot", "copies", "I", true)
  | 1 => ("BinderyDesk$Lot", "contents", "Ljava/util/List;", true)
  | _ => ("BinderyDesk$Lot", "states", "[I", true)
def tyX10 : Nat → FieldType := fun k => match k with
  | 0 => .int
  | 1 => .object "java/util/List"
  | _ => .array .int
abbrev wsX100 : List Cond := u_ws RX10 TX10 3
theorem nmX10 : ∀ a, a < 3 → ∀ b, b < 3 → a ≠ b → (TX10 a).2.1 ≠ (TX10 b).2.1 := by decide +kernel
theorem tyX10_ok : ∀ k, k < 3 → parseFieldDescriptor (TX10 k).2.2.1 = some (tyX10 k) := by decide +kernel
abbrev cX10_init : ByteArray := prog_11_method_1_code
def yX10_init : MethodName := ⟨RX10, "<init>", "(ILjava/util/List;)V"⟩
def dkwX10_init_3 : List UInt8 := [132, 3, 1, 167, 255, 222, 177]
abbrev dktX10_init_3 : List UInt8 := dkwX10_init_3 ++ []
def dkwX10_init_2 : List UInt8 := [42, 180, 0, 28, 29, 42, 180, 0, 18, 29, 185, 0, 32, 2, 0, 192, 0, 36, 180, 0, 38, 79]
abbrev dktX10_init_2 : List UInt8 := dkwX10_init_2 ++ dktX10_init_3
def dkwX10_init_1 : List UInt8 := [180, 0, 18, 185, 0, 22, 1, 0, 188, 10, 181, 0, 28, 3, 62, 29, 42, 180, 0, 28, 190, 162, 0, 31]
abbrev dktX10_init_1 : List UInt8 := dkwX10_init_1 ++ dktX10_init_2
def dkwX10_init_0 : List UInt8 := [42, 183, 0, 1, 42, 27, 181, 0, 7, 42, 187, 0, 13, 89, 44, 183, 0, 15, 181, 0, 18, 42, 42]
abbrev dktX10_init_0 : List UInt8 := dkwX10_init_0 ++ dktX10_init_1
theorem dksX10_init_0 : cX10_init.data.toList.drop 0 = dktX10_init_0 := by decide +kernel
theorem dksX10_init_1 : cX10_init.data.toList.drop 23 = dktX10_init_1 := dk_seg dksX10_init_0 23 rfl rfl
theorem dksX10_init_2 : cX10_init.data.toList.drop 47 = dktX10_init_2 := dk_seg dksX10_init_1 24 rfl rfl
theorem dksX10_init_3 : cX10_init.data.toList.drop 69 = dktX10_init_3 := dk_seg dksX10_init_2 22 rfl rfl
theorem dX10_init_0 : decode cX10_init 0 = .ok (.aload_n 0, 1) := dk_42 (dk_at dksX10_init_0 0 rfl rfl)
theorem dX10_init_1 : decode cX10_init 1 = .ok (.invokespecial 1, 3) := dk_183 0 1 (dk_at dksX10_init_0 1 rfl rfl)
theorem dX10_init_4 : decode cX10_init 4 = .ok (.aload_n 0, 1) := dk_42 (dk_at dksX10_init_0 4 rfl rfl)
theorem dX10_init_5 : decode cX10_init 5 = .ok (.iload_n 1, 1) := dk_27 (dk_at dksX10_init_0 5 rfl rfl)
theorem dX10_init_6 : decode cX10_init 6 = .ok (.putfield 7, 3) := dk_181 0 7 (dk_at dksX10_init_0 6 rfl rfl)
theorem dX10_init_9 : decode cX10_init 9 = .ok (.aload_n 0, 1) := dk_42 (dk_at dksX10_init_0 9 rfl rfl)
theorem dX10_init_10 : decode cX10_init 10 = .ok (.new 13, 3) := dk_187 0 13 (dk_at dksX10_init_0 10 rfl rfl)
theorem dX10_init_13 : decode cX10_init 13 = .ok (.dup, 1) := dk_89 (dk_at dksX10_init_0 13 rfl rfl)
theorem dX10_init_14 : decode cX10_init 14 = .ok (.aload_n 2, 1) := dk_44 (dk_at dksX10_init_0 14 rfl rfl)
theorem dX10_init_15 : decode cX10_init 15 = .ok (.invokespecial 15, 3) := dk_183 0 15 (dk_at dksX10_init_0 15 rfl rfl)
theorem dX10_init_18 : decode cX10_init 18 = .ok (.putfield 18, 3) := dk_181 0 18 (dk_at dksX10_init_0 18 rfl rfl)
theorem dX10_init_21 : decode cX10_init 21 = .ok (.aload_n 0, 1) := dk_42 (dk_at dksX10_init_0 21 rfl rfl)
theorem dX10_init_22 : decode cX10_init 22 = .ok (.aload_n 0, 1) := dk_42 (dk_at dksX10_init_0 22 rfl rfl)
theorem dX10_init_23 : decode cX10_init 23 = .ok (.getfield 18, 3) := dk_180 0 18 (dk_at dksX10_init_1 0 rfl rfl)
theorem dX10_init_26 : decode cX10_init 26 = .ok (.invokeinterface 22 1, 5) := by decide +kernel
theorem dX10_init_31 : decode cX10_init 31 = .ok (.newarray .int, 2) := dk_188_10 (dk_at dksX10_init_1 8 rfl rfl)
theorem dX10_init_33 : decode cX10_init 33 = .ok (.putfield 28, 3) := dk_181 0 28 (dk_at dksX10_init_1 10 rfl rfl)
theorem dX10_init_36 : decode cX10_init 36 = .ok (.iconst 0, 1) := dk_3 (dk_at dksX10_init_1 13 rfl rfl)
theorem dX10_init_37 : decode cX10_init 37 = .ok (.istore_n 3, 1) := dk_62 (dk_at dksX10_init_1 14 rfl rfl)
theorem dX10_init_38 : decode cX10_init 38 = .ok (.iload_n 3, 1) := dk_29 (dk_at dksX10_init_1 15 rfl rfl)
theorem dX10_init_39 : decode cX10_init 39 = .ok (.aload_n 0, 1) := dk_42 (dk_at dksX10_init_1 16 rfl rfl)
theorem dX10_init_40 : decode cX10_init 40 = .ok (.getfield 28, 3) := dk_180 0 28 (dk_at dksX10_init_1 17 rfl rfl)
theorem dX10_init_43 : decode cX10_init 43 = .ok (.arraylength, 1) := dk_190 (dk_at dksX10_init_1 20 rfl rfl)
theorem dX10_init_44 : decode cX10_init 44 = .ok (.if_icmp .ge 31, 3) := dk_162 0 31 (dk_at dksX10_init_1 21 rfl rfl)
theorem dX10_init_47 : decode cX10_init 47 = .ok (.aload_n 0, 1) := dk_42 (dk_at dksX10_init_2 0 rfl rfl)
theorem dX10_init_48 : decode cX10_init 48 = .ok (.getfield 28, 3) := dk_180 0 28 (dk_at dksX10_init_2 1 rfl rfl)
theorem dX10_init_51 : decode cX10_init 51 = .ok (.iload_n 3, 1) := dk_29 (dk_at dksX10_init_2 4 rfl rfl)
theorem dX10_init_52 : decode cX10_init 52 = .ok (.aload_n 0, 1) := dk_42 (dk_at dksX10_init_2 5 rfl rfl)
theorem dX10_init_53 : decode cX10_init 53 = .ok (.getfield 18, 3) := dk_180 0 18 (dk_at dksX10_init_2 6 rfl rfl)
theorem dX10_init_56 : decode cX10_init 56 = .ok (.iload_n 3, 1) := dk_29 (dk_at dksX10_init_2 9 rfl rfl)
theorem dX10_init_57 : decode cX10_init 57 = .ok (.invokeinterface 32 2, 5) := by decide +kernel
theorem dX10_init_62 : decode cX10_init 62 = .ok (.checkcast 36, 3) := dk_192 0 36 (dk_at dksX10_init_2 15 rfl rfl)
theorem dX10_init_65 : decode cX10_init 65 = .ok (.getfield 38, 3) := dk_180 0 38 (dk_at dksX10_init_2 18 rfl rfl)
theorem dX10_init_68 : decode cX10_init 68 = .ok (.iastore, 1) := dk_79 (dk_at dksX10_init_2 21 rfl rfl)
theorem dX10_init_69 : decode cX10_init 69 = .ok (.iinc 3 1, 3) := dk_132 3 1 (dk_at dksX10_init_3 0 rfl rfl)
theorem dX10_init_72 : decode cX10_init 72 = .ok (.goto (-34), 3) := dk_167 255 222 (dk_at dksX10_init_3 3 rfl rfl)
theorem dX10_init_75 : decode cX10_init 75 = .ok (.return_, 1) := dk_177 (dk_at dksX10_init_3 6 rfl rfl)
abbrev cX10_isOutdated : ByteArray := prog_11_method_2_code
def yX10_isOutdated : MethodName := ⟨RX10, "isOutdated", "(LBinderyDesk$Content;)Z"⟩
def dkwX10_isOutdated_1 : List UInt8 := [180, 0, 38, 159, 0, 7, 4, 167, 0, 4, 3, 172]
abbrev dktX10_isOutdated_1 : List UInt8 := dkwX10_isOutdated_1 ++ []
def dkwX10_isOutdated_0 : List UInt8 := [42, 180, 0, 18, 43, 185, 0, 41, 2, 0, 61, 28, 155, 0, 20, 42, 180, 0, 28, 28, 46, 43]
abbrev dktX10_isOutdated_0 : List UInt8 := dkwX10_isOutdated_0 ++ dktX10_isOutdated_1
theorem dksX10_isOutdated_0 : cX10_isOutdated.data.toList.drop 0 = dktX10_isOutdated_0 := by decide +kernel
theorem dksX10_isOutdated_1 : cX10_isOutdated.data.toList.drop 22 = dktX10_isOutdated_1 := dk_seg dksX10_isOutdated_0 22 rfl rfl
theorem dX10_isOutdated_0 : decode cX10_isOutdated 0 = .ok (.aload_n 0, 1) := dk_42 (dk_at dksX10_isOutdated_0 0 rfl rfl)
theorem dX10_isOutdated_1 : decode cX10_isOutdated 1 = .ok (.getfield 18, 3) := dk_180 0 18 (dk_at dksX10_isOutdated_0 1 rfl rfl)
theorem dX10_isOutdated_4 : decode cX10_isOutdated 4 = .ok (.aload_n 1, 1) := dk_43 (dk_at dksX10_isOutdated_0 4 rfl rfl)
theorem dX10_isOutdated_5 : decode cX10_isOutdated 5 = .ok (.invokeinterface 41 2, 5) := by decide +kernel
theorem dX10_isOutdated_10 : decode cX10_isOutdated 10 = .ok (.istore_n 2, 1) := dk_61 (dk_at dksX10_isOutdated_0 10 rfl rfl)
theorem dX10_isOutdated_11 : decode cX10_isOutdated 11 = .ok (.iload_n 2, 1) := dk_28 (dk_at dksX10_isOutdated_0 11 rfl rfl)
theorem dX10_isOutdated_12 : decode cX10_isOutdated 12 = .ok (.ifCond .lt 20, 3) := dk_155 0 20 (dk_at dksX10_isOutdated_0 12 rfl rfl)
theorem dX10_isOutdated_15 : decode cX10_isOutdated 15 = .ok (.aload_n 0, 1) := dk_42 (dk_at dksX10_isOutdated_0 15 rfl rfl)
theorem dX10_isOutdated_16 : decode cX10_isOutdated 16 = .ok (.getfield 28, 3) := dk_180 0 28 (dk_at dksX10_isOutdated_0 16 rfl rfl)
theorem dX10_isOutdated_19 : decode cX10_isOutdated 19 = .ok (.iload_n 2, 1) := dk_28 (dk_at dksX10_isOutdated_0 19 rfl rfl)
theorem dX10_isOutdated_20 : decode cX10_isOutdated 20 = .ok (.iaload, 1) := dk_46 (dk_at dksX10_isOutdated_0 20 rfl rfl)
theorem dX10_isOutdated_21 : decode cX10_isOutdated 21 = .ok (.aload_n 1, 1) := dk_43 (dk_at dksX10_isOutdated_0 21 rfl rfl)
theorem dX10_isOutdated_22 : decode cX10_isOutdated 22 = .ok (.getfield 38, 3) := dk_180 0 38 (dk_at dksX10_isOutdated_1 0 rfl rfl)
theorem dX10_isOutdated_25 : decode cX10_isOutdated 25 = .ok (.if_icmp .eq 7, 3) := dk_159 0 7 (dk_at dksX10_isOutdated_1 3 rfl rfl)
theorem dX10_isOutdated_28 : decode cX10_isOutdated 28 = .ok (.iconst 1, 1) := dk_4 (dk_at dksX10_isOutdated_1 6 rfl rfl)
theorem dX10_isOutdated_29 : decode cX10_isOutdated 29 = .ok (.goto 4, 3) := dk_167 0 4 (dk_at dksX10_isOutdated_1 7 rfl rfl)
theorem dX10_isOutdated_32 : decode cX10_isOutdated 32 = .ok (.iconst 0, 1) := dk_3 (dk_at dksX10_isOutdated_1 10 rfl rfl)
theorem dX10_isOutdated_33 : decode cX10_isOutdated 33 = .ok (.ireturn, 1) := dk_172 (dk_at dksX10_isOutdated_1 11 rfl rfl)
theorem q83 : (Jvm.Cond.initialized "BinderyDesk$Lot") ∈ lw_all := lw_g (lw_at lw_m1 43 rfl) rfl
theorem q345 : (Jvm.Cond.fieldLinkNest "BinderyDesk$Lot" (38 : Nat) "BinderyDesk$Content" "state" "I" "BinderyDesk") ∈ lw_tbl := lw_at lw_m2 65 rfl
theorem q402 : (Jvm.Cond.selects "BinderyDesk$Lot" ({ cls := "java/lang/Object", name := "getClass", desc := "()Ljava/lang/Class;" } : Jvm.MethodName) ({ cls := "java/lang/Object", name := "getClass", desc := "()Ljava/lang/Class;" } : Jvm.MethodName)) ∈ lw_all := lw_g (lw_at lw_m2 122 rfl) rfl
theorem q1334 : (Jvm.Cond.selects "BinderyDesk$Lot" ({ cls := "java/lang/Object", name := "equals", desc := "(Ljava/lang/Object;)Z" } : Jvm.MethodName) ({ cls := "java/lang/Object", name := "equals", desc := "(Ljava/lang/Object;)Z" } : Jvm.MethodName)) ∈ lw_all := lw_g (lw_at lw_m6 94 rfl) rfl
theorem q1412 : (Jvm.Cond.instantiable "BinderyDesk$Lot" (3 : Nat)) ∈ lw_all := lw_g (lw_at lw_m6 172 rfl) rfl
theorem q1414 : (Jvm.Cond.instanceMethod ({ cls := "BinderyDesk$Lot", name := "<init>", desc := "(ILjava/util/List;)V" } : Jvm.MethodName)) ∈ lw_all := lw_g (lw_at lw_m6 174 rfl) rfl
theorem q1415 : (Jvm.Cond.code ({ cls := "BinderyDesk$Lot", name := "<init>", desc := "(ILjava/util/List;)V" } : Jvm.MethodName) prog_11_method_1_code (4 : Nat) (Option.none : Option Jvm.ClassFile.FieldType)) ∈ lw_all := lw_g (lw_at lw_m6 175 rfl) rfl
theorem q1416 : (Jvm.Cond.methodLink "BinderyDesk$Lot" (1 : Nat) ({ cls := "java/lang/Object", name := "<init>", desc := "()V" } : Jvm.MethodName)) ∈ lw_all := lw_g (lw_at lw_m6 176 rfl) rfl
theorem q1417 : (Jvm.Cond.classLink "BinderyDesk$Lot" (13 : Nat) "java/util/ArrayList") ∈ lw_all := lw_g (lw_at lw_m6 177 rfl) rfl
theorem q1418 : (Jvm.Cond.methodLink "BinderyDesk$Lot" (15 : Nat) ({ cls := "java/util/ArrayList", name := "<init>", desc := "(Ljava/util/Collection;)V" } : Jvm.MethodName)) ∈ lw_all := lw_g (lw_at lw_m6 178 rfl) rfl
theorem q1457 : (Jvm.Cond.interfaceEntry "BinderyDesk$Lot" (22 : Nat)) ∈ lw_tbl := lw_at lw_m6 217 rfl
theorem q1458 : (Jvm.Cond.methodLink "BinderyDesk$Lot" (22 : Nat) ({ cls := "java/util/List", name := "size", desc := "()I" } : Jvm.MethodName)) ∈ lw_all := lw_g (lw_at lw_m6 218 rfl) rfl
theorem q1459 : (Jvm.Cond.interfaceEntry "BinderyDesk$Lot" (32 : Nat)) ∈ lw_tbl := lw_at lw_m6 219 rfl
theorem q1460 : (Jvm.Cond.methodLink "BinderyDesk$Lot" (32 : Nat) ({ cls := "java/util/List", name := "get", desc := "(I)Ljava/lang/Object;" } : Jvm.MethodName)) ∈ lw_all := lw_g (lw_at lw_m6 220 rfl) rfl
theorem q1461 : (Jvm.Cond.classLink "BinderyDesk$Lot" (36 : Nat) "BinderyDesk$Content") ∈ lw_all := lw_g (lw_at lw_m6 221 rfl) rfl
theorem q1462 : (Jvm.Cond.fieldLink "BinderyDesk$Lot" (7 : Nat) "BinderyDesk$Lot" "copies" "I") ∈ lw_all := lw_g (lw_at lw_m6 222 rfl) rfl
theorem q1464 : (Jvm.Cond.fieldLink "BinderyDesk$Lot" (18 : Nat) "BinderyDesk$Lot" "contents" "Ljava/util/List;") ∈ lw_all := lw_g (lw_at lw_m6 224 rfl) rfl
theorem q1466 : (Jvm.Cond.fieldLink "BinderyDesk$Lot" (28 : Nat) "BinderyDesk$Lot" "states" "[I") ∈ lw_all := lw_g (lw_at lw_m6 226 rfl) rfl
theorem q1468 : (Jvm.Cond.laysFinal "BinderyDesk$Lot" "BinderyDesk$Lot" "copies" "I") ∈ lw_all := lw_g (lw_at lw_m6 228 rfl) rfl
theorem q1469 : (Jvm.Cond.soleField "BinderyDesk$Lot" "copies") ∈ lw_all := lw_g (lw_at lw_m6 229 rfl) rfl
theorem q1470 : (Jvm.Cond.laysFinal "BinderyDesk$Lot" "BinderyDesk$Lot" "contents" "Ljava/util/List;") ∈ lw_all := lw_g (lw_at lw_m6 230 rfl) rfl
theorem q1471 : (Jvm.Cond.soleField "BinderyDesk$Lot" "contents") ∈ lw_all := lw_g (lw_at lw_m6 231 rfl) rfl
theorem q1472 : (Jvm.Cond.laysFinal "BinderyDesk$Lot" "BinderyDesk$Lot" "states" "[I") ∈ lw_all := lw_g (lw_at lw_m6 232 rfl) rfl
theorem q1473 : (Jvm.Cond.soleField "BinderyDesk$Lot" "states") ∈ lw_all := lw_g (lw_at lw_m6 233 rfl) rfl
theorem q1474 : (Jvm.Cond.superclass "BinderyDesk$Lot" "java/lang/Object") ∈ lw_all := lw_g (lw_at lw_m6 234 rfl) rfl
theorem q1520 : (Jvm.Cond.instanceMethod ({ cls := "BinderyDesk$Lot", name := "isOutdated", desc := "(LBinderyDesk$Content;)Z" } : Jvm.MethodName)) ∈ lw_all := lw_g (lw_at lw_m7 40 rfl) rfl
theorem q1521 : (Jvm.Cond.selects "BinderyDesk$Lot" ({ cls := "BinderyDesk$Lot", name := "isOutdated", desc := "(LBinderyDesk$Content;)Z" } : Jvm.MethodName) ({ cls := "BinderyDesk$Lot", name := "isOutdated", desc := "(LBinderyDesk$Content;)Z" } : Jvm.MethodName)) ∈ lw_all := lw_g (lw_at lw_m7 41 rfl) rfl
theorem q1522 : (Jvm.Cond.code ({ cls := "BinderyDesk$Lot", name := "isOutdated", desc := "(LBinderyDesk$Content;)Z" } : Jvm.MethodName) prog_11_method_2_code (3 : Nat) (Option.some Jvm.ClassFile.FieldType.boolean)) ∈ lw_all := lw_g (lw_at lw_m7 42 rfl) rfl
theorem q1523 : (Jvm.Cond.interfaceEntry "BinderyDesk$Lot" (41 : Nat)) ∈ lw_tbl := lw_at lw_m7 43 rfl
theorem q1524 : (Jvm.Cond.methodLink "BinderyDesk$Lot" (41 : Nat) ({ cls := "java/util/List", name := "indexOf", desc := "(Ljava/lang/Object;)I" } : Jvm.MethodName)) ∈ lw_all := lw_g (lw_at lw_m7 44 rfl) rfl
theorem q1860 : (Jvm.Cond.castable "BinderyDesk$Lot" "BinderyDesk$Event") ∈ lw_tbl := lw_at lw_m8 140 rfl
theorem q1888 : (Jvm.Cond.castable "BinderyDesk$Lot" "java/lang/Object") ∈ lw_tbl := lw_at lw_m8 168 rfl
theorem in_X10 : ∀ w ∈ wsX100, w ∈ lw_all := lw_in wsX100 [1468, 1470, 1472] (by decide +kernel) (by decide +kernel)

/-! BinderyDesk$Binding$1 -/
set_option maxRecDepth 100000
def RX11 : String := "BinderyDesk$Binding$1"
abbrev cX11_pageAt : ByteArray := prog_3_method_2_code
def yX11_pageAt : MethodName := ⟨RX11, "pageAt", "(III)I"⟩
def dkwX11_pageAt_2 : List UInt8 := [27, 5, 28, 104, 100, 172, 27, 5, 28, 104, 100, 4, 100, 172, 5, 28, 104, 29, 96, 172]
abbrev dktX11_pageAt_2 : List UInt8 := dkwX11_pageAt_2 ++ []
def dkwX11_pageAt_1 : List UInt8 := [171, 0, 0, 0, 0, 0, 41, 0, 0, 0, 2, 0, 0, 0, 0, 0, 0, 0, 27, 0, 0, 0, 3, 0, 0, 0, 33]
abbrev dktX11_pageAt_1 : List UInt8 := dkwX11_pageAt_1 ++ dktX11_pageAt_2
def dkwX11_pageAt_0 : List UInt8 := [29]
abbrev dktX11_pageAt_0 : List UInt8 := dkwX11_pageAt_0 ++ dktX11_pageAt_1
theorem dksX11_pageAt_0 : cX11_pageAt.data.toList.drop 0 = dktX11_pageAt_0 := by decide +kernel
theorem dksX11_pageAt_1 : cX11_pageAt.data.toList.drop 1 = dktX11_pageAt_1 := dk_seg dksX11_pageAt_0 1 rfl rfl
theorem dksX11_pageAt_2 : cX11_pageAt.data.toList.drop 28 = dktX11_pageAt_2 := dk_seg dksX11_pageAt_1 27 rfl rfl
theorem dX11_pageAt_0 : decode cX11_pageAt 0 = .ok (.iload_n 3, 1) := dk_29 (dk_at dksX11_pageAt_0 0 rfl rfl)
theorem dX11_pageAt_1 : decode cX11_pageAt 1 = .ok (.lookupswitch 41 #[(0, 27), (3, 33)], 27) := by decide +kernel
theorem dX11_pageAt_28 : decode cX11_pageAt 28 = .ok (.iload_n 1, 1) := dk_27 (dk_at dksX11_pageAt_2 0 rfl rfl)
theorem dX11_pageAt_29 : decode cX11_pageAt 29 = .ok (.iconst 2, 1) := dk_5 (dk_at dksX11_pageAt_2 1 rfl rfl)
theorem dX11_pageAt_30 : decode cX11_pageAt 30 = .ok (.iload_n 2, 1) := dk_28 (dk_at dksX11_pageAt_2 2 rfl rfl)
theorem dX11_pageAt_31 : decode cX11_pageAt 31 = .ok (.imul, 1) := dk_104 (dk_at dksX11_pageAt_2 3 rfl rfl)
theorem dX11_pageAt_32 : decode cX11_pageAt 32 = .ok (.isub, 1) := dk_100 (dk_at dksX11_pageAt_2 4 rfl rfl)
theorem dX11_pageAt_33 : decode cX11_pageAt 33 = .ok (.ireturn, 1) := dk_172 (dk_at dksX11_pageAt_2 5 rfl rfl)
theorem dX11_pageAt_34 : decode cX11_pageAt 34 = .ok (.iload_n 1, 1) := dk_27 (dk_at dksX11_pageAt_2 6 rfl rfl)
theorem dX11_pageAt_35 : decode cX11_pageAt 35 = .ok (.iconst 2, 1) := dk_5 (dk_at dksX11_pageAt_2 7 rfl rfl)
theorem dX11_pageAt_36 : decode cX11_pageAt 36 = .ok (.iload_n 2, 1) := dk_28 (dk_at dksX11_pageAt_2 8 rfl rfl)
theorem dX11_pageAt_37 : decode cX11_pageAt 37 = .ok (.imul, 1) := dk_104 (dk_at dksX11_pageAt_2 9 rfl rfl)
theorem dX11_pageAt_38 : decode cX11_pageAt 38 = .ok (.isub, 1) := dk_100 (dk_at dksX11_pageAt_2 10 rfl rfl)
theorem dX11_pageAt_39 : decode cX11_pageAt 39 = .ok (.iconst 1, 1) := dk_4 (dk_at dksX11_pageAt_2 11 rfl rfl)
theorem dX11_pageAt_40 : decode cX11_pageAt 40 = .ok (.isub, 1) := dk_100 (dk_at dksX11_pageAt_2 12 rfl rfl)
theorem dX11_pageAt_41 : decode cX11_pageAt 41 = .ok (.ireturn, 1) := dk_172 (dk_at dksX11_pageAt_2 13 rfl rfl)
theorem dX11_pageAt_42 : decode cX11_pageAt 42 = .ok (.iconst 2, 1) := dk_5 (dk_at dksX11_pageAt_2 14 rfl rfl)
theorem dX11_pageAt_43 : decode cX11_pageAt 43 = .ok (.iload_n 2, 1) := dk_28 (dk_at dksX11_pageAt_2 15 rfl rfl)
theorem dX11_pageAt_44 : decode cX11_pageAt 44 = .ok (.imul, 1) := dk_104 (dk_at dksX11_pageAt_2 16 rfl rfl)
theorem dX11_pageAt_45 : decode cX11_pageAt 45 = .ok (.iload_n 3, 1) := dk_29 (dk_at dksX11_pageAt_2 17 rfl rfl)
theorem dX11_pageAt_46 : decode cX11_pageAt 46 = .ok (.iadd, 1) := dk_96 (dk_at dksX11_pageAt_2 18 rfl rfl)
theorem dX11_pageAt_47 : decode cX11_pageAt 47 = .ok (.ireturn, 1) := dk_172 (dk_at dksX11_pageAt_2 19 rfl rfl)
theorem q395 : (Jvm.Cond.selects "BinderyDesk$Binding$1" ({ cls := "java/lang/Object", name := "getClass", desc := "()Ljava/lang/Class;" } : Jvm.MethodName) ({ cls := "java/lang/Object", name := "getClass", desc := "()Ljava/lang/Class;" } : Jvm.MethodName)) ∈ lw_all := lw_g (lw_at lw_m2 115 rfl) rfl
theorem q662 : (Jvm.Cond.selects "BinderyDesk$Binding$1" ({ cls := "BinderyDesk$Binding", name := "pageAt", desc := "(III)I" } : Jvm.MethodName) ({ cls := "BinderyDesk$Binding$1", name := "pageAt", desc := "(III)I" } : Jvm.MethodName)) ∈ lw_all := lw_g (lw_at lw_m3 142 rfl) rfl
theorem q663 : (Jvm.Cond.instanceMethod ({ cls := "BinderyDesk$Binding$1", name := "pageAt", desc := "(III)I" } : Jvm.MethodName)) ∈ lw_all := lw_g (lw_at lw_m3 143 rfl) rfl
theorem q664 : (Jvm.Cond.code ({ cls := "BinderyDesk$Binding$1", name := "pageAt", desc := "(III)I" } : Jvm.MethodName) prog_3_method_2_code (4 : Nat) (Option.some Jvm.ClassFile.FieldType.int)) ∈ lw_all := lw_g (lw_at lw_m3 144 rfl) rfl
theorem q941 : (Jvm.Cond.castable "BinderyDesk$Binding$1" "java/lang/Comparable") ∈ lw_tbl := lw_at lw_m4 181 rfl
theorem q942 : (Jvm.Cond.selects "BinderyDesk$Binding$1" ({ cls := "java/lang/Comparable", name := "compareTo", desc := "(Ljava/lang/Object;)I" } : Jvm.MethodName) ({ cls := "java/lang/Enum", name := "compareTo", desc := "(Ljava/lang/Object;)I" } : Jvm.MethodName)) ∈ lw_all := lw_g (lw_at lw_m4 182 rfl) rfl
theorem q943 : (Jvm.Cond.unhidden "BinderyDesk$Binding$1" "compareTo" "(Ljava/lang/Object;)I") ∈ lw_tbl := lw_at lw_m4 183 rfl
theorem q951 : (Jvm.Cond.selects "BinderyDesk$Binding$1" ({ cls := "java/lang/Enum", name := "compareTo", desc := "(Ljava/lang/Enum;)I" } : Jvm.MethodName) ({ cls := "java/lang/Enum", name := "compareTo", desc := "(Ljava/lang/Enum;)I" } : Jvm.MethodName)) ∈ lw_all := lw_g (lw_at lw_m4 191 rfl) rfl
theorem q959 : (Jvm.Cond.selects "BinderyDesk$Binding$1" ({ cls := "java/lang/Enum", name := "getDeclaringClass", desc := "()Ljava/lang/Class;" } : Jvm.MethodName) ({ cls := "java/lang/Enum", name := "getDeclaringClass", desc := "()Ljava/lang/Class;" } : Jvm.MethodName)) ∈ lw_all := lw_g (lw_at lw_m4 199 rfl) rfl
theorem q1325 : (Jvm.Cond.selects "BinderyDesk$Binding$1" ({ cls := "java/lang/Object", name := "equals", desc := "(Ljava/lang/Object;)Z" } : Jvm.MethodName) ({ cls := "java/lang/Enum", name := "equals", desc := "(Ljava/lang/Object;)Z" } : Jvm.MethodName)) ∈ lw_all := lw_g (lw_at lw_m6 85 rfl) rfl
theorem q1856 : (Jvm.Cond.castable "BinderyDesk$Binding$1" "java/lang/Enum") ∈ lw_tbl := lw_at lw_m8 136 rfl
theorem q1876 : (Jvm.Cond.castable "BinderyDesk$Binding$1" "java/lang/Object") ∈ lw_tbl := lw_at lw_m8 156 rfl
theorem q1892 : (Jvm.Cond.castable "BinderyDesk$Binding$1" "BinderyDesk$Binding") ∈ lw_tbl := lw_at lw_m8 172 rfl

/-! BinderyDesk$Binding$2 -/
set_option maxRecDepth 100000
def RX12 : String := "BinderyDesk$Binding$2"
abbrev cX12_pageAt : ByteArray := prog_4_method_2_code
def yX12_pageAt : MethodName := ⟨RX12, "pageAt", "(III)I"⟩
def dkwX12_pageAt_0 : List UInt8 := [7, 28, 104, 29, 154, 0, 7, 7, 167, 0, 4, 29, 96, 172]
abbrev dktX12_pageAt_0 : List UInt8 := dkwX12_pageAt_0 ++ []
theorem dksX12_pageAt_0 : cX12_pageAt.data.toList.drop 0 = dktX12_pageAt_0 := by decide +kernel
theorem dX12_pageAt_0 : decode cX12_pageAt 0 = .ok (.iconst 4, 1) := dk_7 (dk_at dksX12_pageAt_0 0 rfl rfl)
theorem dX12_pageAt_1 : decode cX12_pageAt 1 = .ok (.iload_n 2, 1) := dk_28 (dk_at dksX12_pageAt_0 1 rfl rfl)
theorem dX12_pageAt_2 : decode cX12_pageAt 2 = .ok (.imul, 1) := dk_104 (dk_at dksX12_pageAt_0 2 rfl rfl)
theorem dX12_pageAt_3 : decode cX12_pageAt 3 = .ok (.iload_n 3, 1) := dk_29 (dk_at dksX12_pageAt_0 3 rfl rfl)
theorem dX12_pageAt_4 : decode cX12_pageAt 4 = .ok (.ifCond .ne 7, 3) := dk_154 0 7 (dk_at dksX12_pageAt_0 4 rfl rfl)
theorem dX12_pageAt_7 : decode cX12_pageAt 7 = .ok (.iconst 4, 1) := dk_7 (dk_at dksX12_pageAt_0 7 rfl rfl)
theorem dX12_pageAt_8 : decode cX12_pageAt 8 = .ok (.goto 4, 3) := dk_167 0 4 (dk_at dksX12_pageAt_0 8 rfl rfl)
theorem dX12_pageAt_11 : decode cX12_pageAt 11 = .ok (.iload_n 3, 1) := dk_29 (dk_at dksX12_pageAt_0 11 rfl rfl)
theorem dX12_pageAt_12 : decode cX12_pageAt 12 = .ok (.iadd, 1) := dk_96 (dk_at dksX12_pageAt_0 12 rfl rfl)
theorem dX12_pageAt_13 : decode cX12_pageAt 13 = .ok (.ireturn, 1) := dk_172 (dk_at dksX12_pageAt_0 13 rfl rfl)
theorem q396 : (Jvm.Cond.selects "BinderyDesk$Binding$2" ({ cls := "java/lang/Object", name := "getClass", desc := "()Ljava/lang/Class;" } : Jvm.MethodName) ({ cls := "java/lang/Object", name := "getClass", desc := "()Ljava/lang/Class;" } : Jvm.MethodName)) ∈ lw_all := lw_g (lw_at lw_m2 116 rfl) rfl
theorem q665 : (Jvm.Cond.selects "BinderyDesk$Binding$2" ({ cls := "BinderyDesk$Binding", name := "pageAt", desc := "(III)I" } : Jvm.MethodName) ({ cls := "BinderyDesk$Binding$2", name := "pageAt", desc := "(III)I" } : Jvm.MethodName)) ∈ lw_all := lw_g (lw_at lw_m3 145 rfl) rfl
theorem q666 : (Jvm.Cond.instanceMethod ({ cls := "BinderyDesk$Binding$2", name := "pageAt", desc := "(III)I" } : Jvm.MethodName)) ∈ lw_all := lw_g (lw_at lw_m3 146 rfl) rfl
theorem q667 : (Jvm.Cond.code ({ cls := "BinderyDesk$Binding$2", name := "pageAt", desc := "(III)I" } : Jvm.MethodName) prog_4_method_2_code (4 : Nat) (Option.some Jvm.ClassFile.FieldType.int)) ∈ lw_all := lw_g (lw_at lw_m3 147 rfl) rfl
theorem q952 : (Jvm.Cond.selects "BinderyDesk$Binding$2" ({ cls := "java/lang/Enum", name := "compareTo", desc := "(Ljava/lang/Enum;)I" } : Jvm.MethodName) ({ cls := "java/lang/Enum", name := "compareTo", desc := "(Ljava/lang/Enum;)I" } : Jvm.MethodName)) ∈ lw_all := lw_g (lw_at lw_m4 192 rfl) rfl
theorem q960 : (Jvm.Cond.selects "BinderyDesk$Binding$2" ({ cls := "java/lang/Enum", name := "getDeclaringClass", desc := "()Ljava/lang/Class;" } : Jvm.MethodName) ({ cls := "java/lang/Enum", name := "getDeclaringClass", desc := "()Ljava/lang/Class;" } : Jvm.MethodName)) ∈ lw_all := lw_g (lw_at lw_m4 200 rfl) rfl
theorem q963 : (Jvm.Cond.castable "BinderyDesk$Binding$2" "java/lang/Comparable") ∈ lw_tbl := lw_at lw_m4 203 rfl
theorem q964 : (Jvm.Cond.selects "BinderyDesk$Binding$2" ({ cls := "java/lang/Comparable", name := "compareTo", desc := "(Ljava/lang/Object;)I" } : Jvm.MethodName) ({ cls := "java/lang/Enum", name := "compareTo", desc := "(Ljava/lang/Object;)I" } : Jvm.MethodName)) ∈ lw_all := lw_g (lw_at lw_m4 204 rfl) rfl
theorem q965 : (Jvm.Cond.unhidden "BinderyDesk$Binding$2" "compareTo" "(Ljava/lang/Object;)I") ∈ lw_tbl := lw_at lw_m4 205 rfl
theorem q1328 : (Jvm.Cond.selects "BinderyDesk$Binding$2" ({ cls := "java/lang/Object", name := "equals", desc := "(Ljava/lang/Object;)Z" } : Jvm.MethodName) ({ cls := "java/lang/Enum", name := "equals", desc := "(Ljava/lang/Object;)Z" } : Jvm.MethodName)) ∈ lw_all := lw_g (lw_at lw_m6 88 rfl) rfl
theorem q1857 : (Jvm.Cond.castable "BinderyDesk$Binding$2" "java/lang/Enum") ∈ lw_tbl := lw_at lw_m8 137 rfl
theorem q1877 : (Jvm.Cond.castable "BinderyDesk$Binding$2" "java/lang/Object") ∈ lw_tbl := lw_at lw_m8 157 rfl
theorem q1893 : (Jvm.Cond.castable "BinderyDesk$Binding$2" "BinderyDesk$Binding") ∈ lw_tbl := lw_at lw_m8 173 rfl

/-! BinderyDesk$Binding$3 -/
set_option maxRecDepth 100000
def RX13 : String := "BinderyDesk$Binding$3"
abbrev cX13_pageAt : ByteArray := prog_5_method_2_code
def yX13_pageAt : MethodName := ⟨RX13, "pageAt", "(III)I"⟩
def dkwX13_pageAt_0 : List UInt8 := [5, 28, 104, 29, 96, 4, 96, 172]
abbrev dktX13_pageAt_0 : List UInt8 := dkwX13_pageAt_0 ++ []
theorem dksX13_pageAt_0 : cX13_pageAt.data.toList.drop 0 = dktX13_pageAt_0 := by decide +kernel
theorem dX13_pageAt_0 : decode cX13_pageAt 0 = .ok (.iconst 2, 1) := dk_5 (dk_at dksX13_pageAt_0 0 rfl rfl)
theorem dX13_pageAt_1 : decode cX13_pageAt 1 = .ok (.iload_n 2, 1) := dk_28 (dk_at dksX13_pageAt_0 1 rfl rfl)
theorem dX13_pageAt_2 : decode cX13_pageAt 2 = .ok (.imul, 1) := dk_104 (dk_at dksX13_pageAt_0 2 rfl rfl)
theorem dX13_pageAt_3 : decode cX13_pageAt 3 = .ok (.iload_n 3, 1) := dk_29 (dk_at dksX13_pageAt_0 3 rfl rfl)
theorem dX13_pageAt_4 : decode cX13_pageAt 4 = .ok (.iadd, 1) := dk_96 (dk_at dksX13_pageAt_0 4 rfl rfl)
theorem dX13_pageAt_5 : decode cX13_pageAt 5 = .ok (.iconst 1, 1) := dk_4 (dk_at dksX13_pageAt_0 5 rfl rfl)
theorem dX13_pageAt_6 : decode cX13_pageAt 6 = .ok (.iadd, 1) := dk_96 (dk_at dksX13_pageAt_0 6 rfl rfl)
theorem dX13_pageAt_7 : decode cX13_pageAt 7 = .ok (.ireturn, 1) := dk_172 (dk_at dksX13_pageAt_0 7 rfl rfl)
theorem q397 : (Jvm.Cond.selects "BinderyDesk$Binding$3" ({ cls := "java/lang/Object", name := "getClass", desc := "()Ljava/lang/Class;" } : Jvm.MethodName) ({ cls := "java/lang/Object", name := "getClass", desc := "()Ljava/lang/Class;" } : Jvm.MethodName)) ∈ lw_all := lw_g (lw_at lw_m2 117 rfl) rfl
theorem q668 : (Jvm.Cond.selects "BinderyDesk$Binding$3" ({ cls := "BinderyDesk$Binding", name := "pageAt", desc := "(III)I" } : Jvm.MethodName) ({ cls := "BinderyDesk$Binding$3", name := "pageAt", desc := "(III)I" } : Jvm.MethodName)) ∈ lw_all := lw_g (lw_at lw_m3 148 rfl) rfl
theorem q669 : (Jvm.Cond.instanceMethod ({ cls := "BinderyDesk$Binding$3", name := "pageAt", desc := "(III)I" } : Jvm.MethodName)) ∈ lw_all := lw_g (lw_at lw_m3 149 rfl) rfl
theorem q670 : (Jvm.Cond.code ({ cls := "BinderyDesk$Binding$3", name := "pageAt", desc := "(III)I" } : Jvm.MethodName) prog_5_method_2_code (4 : Nat) (Option.some Jvm.ClassFile.FieldType.int)) ∈ lw_all := lw_g (lw_at lw_m3 150 rfl) rfl
theorem q953 : (Jvm.Cond.selects "BinderyDesk$Binding$3" ({ cls := "java/lang/Enum", name := "compareTo", desc := "(Ljava/lang/Enum;)I" } : Jvm.MethodName) ({ cls := "java/lang/Enum", name := "compareTo", desc := "(Ljava/lang/Enum;)I" } : Jvm.MethodName)) ∈ lw_all := lw_g (lw_at lw_m4 193 rfl) rfl
theorem q961 : (Jvm.Cond.selects "BinderyDesk$Binding$3" ({ cls := "java/lang/Enum", name := "getDeclaringClass", desc := "()Ljava/lang/Class;" } : Jvm.MethodName) ({ cls := "java/lang/Enum", name := "getDeclaringClass", desc := "()Ljava/lang/Class;" } : Jvm.MethodName)) ∈ lw_all := lw_g (lw_at lw_m4 201 rfl) rfl
theorem q966 : (Jvm.Cond.castable "BinderyDesk$Binding$3" "java/lang/Comparable") ∈ lw_tbl := lw_at lw_m4 206 rfl
theorem q967 : (Jvm.Cond.selects "BinderyDesk$Binding$3" ({ cls := "java/lang/Comparable", name := "compareTo", desc := "(Ljava/lang/Object;)I" } : Jvm.MethodName) ({ cls := "java/lang/Enum", name := "compareTo", desc := "(Ljava/lang/Object;)I" } : Jvm.MethodName)) ∈ lw_all := lw_g (lw_at lw_m4 207 rfl) rfl
theorem q968 : (Jvm.Cond.unhidden "BinderyDesk$Binding$3" "compareTo" "(Ljava/lang/Object;)I") ∈ lw_tbl := lw_at lw_m4 208 rfl
theorem q1329 : (Jvm.Cond.selects "BinderyDesk$Binding$3" ({ cls := "java/lang/Object", name := "equals", desc := "(Ljava/lang/Object;)Z" } : Jvm.MethodName) ({ cls := "java/lang/Enum", name := "equals", desc := "(Ljava/lang/Object;)Z" } : Jvm.MethodName)) ∈ lw_all := lw_g (lw_at lw_m6 89 rfl) rfl
theorem q1858 : (Jvm.Cond.castable "BinderyDesk$Binding$3" "java/lang/Enum") ∈ lw_tbl := lw_at lw_m8 138 rfl
theorem q1878 : (Jvm.Cond.castable "BinderyDesk$Binding$3" "java/lang/Object") ∈ lw_tbl := lw_at lw_m8 158 rfl
theorem q1894 : (Jvm.Cond.castable "BinderyDesk$Binding$3" "BinderyDesk$Binding") ∈ lw_tbl := lw_at lw_m8 174 rfl
