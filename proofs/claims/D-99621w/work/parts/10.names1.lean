/-! BentRiver$Valley -/
set_option maxRecDepth 100000
def RX1 : String := "BentRiver$Valley"
def TX1 : u_T := fun k => match k with
  | 0 => ("BentRiver$Valley", "statements", "I", false)
  | 1 => ("BentRiver$Valley", "columns", "I", false)
  | 2 => ("BentRiver$Valley", "rows", "I", false)
  | 3 => ("BentRiver$Valley", "reach", "I", false)
  | 4 => ("BentRiver$Valley", "spate", "I", false)
  | 5 => ("BentRiver$Valley", "runs", "[I", true)
  | 6 => ("BentRiver$Valley", "soil", "[[I", true)
  | 7 => ("BentRiver$Valley", "willows", "[[I", true)
  | 8 => ("BentRiver$Valley", "lords", "Ljava/util/List;", true)
  | 9 => ("BentRiver$Valley", "eats", "LBentRiver$Value;", false)
  | _ => ("BentRiver$Valley", "bend", "LBentRiver$Test;", false)
def tyX1 : Nat → FieldType := fun k => match k with
  | 0 => .int
  | 1 => .int
  | 2 => .int
  | 3 => .int
  | 4 => .int
  | 5 => .array .int
  | 6 => .array (.array .int)
  | 7 => .array (.array .int)
  | 8 => .object "java/util/List"
  | 9 => .object "BentRiver$Value"
  | _ => .object "BentRiver$Test"
abbrev wsX10 : List Cond := u_ws RX1 TX1 11
theorem nmX1 : ∀ a, a < 11 → ∀ b, b < 11 → a ≠ b → (TX1 a).2.1 ≠ (TX1 b).2.1 := by decide +kernel
theorem tyX1_ok : ∀ k, k < 11 → parseFieldDescriptor (TX1 k).2.2.1 = some (tyX1 k) := by decide +kernel
abbrev cX1_init : ByteArray := prog_18_method_1_code
def yX1_init : MethodName := ⟨RX1, "<init>", "()V"⟩
def dkwX1_init_3 : List UInt8 := [79, 132, 2, 1, 167, 255, 238, 132, 1, 1, 167, 255, 224, 177]
abbrev dktX1_init_3 : List UInt8 := dkwX1_init_3 ++ []
def dkwX1_init_2 : List UInt8 := [3, 60, 27, 16, 10, 162, 0, 32, 3, 61, 28, 16, 8, 162, 0, 18, 42, 180, 0, 17, 27, 50, 28, 8]
abbrev dktX1_init_2 : List UInt8 := dkwX1_init_2 ++ dktX1_init_3
def dkwX1_init_1 : List UInt8 := [42, 16, 10, 16, 8, 197, 0, 15, 2, 181, 0, 20, 42, 187, 0, 23, 89, 5, 183, 0, 25, 181, 0, 28]
abbrev dktX1_init_1 : List UInt8 := dkwX1_init_1 ++ dktX1_init_2
def dkwX1_init_0 : List UInt8 := [42, 183, 0, 3, 42, 16, 10, 188, 10, 181, 0, 9, 42, 16, 10, 16, 8, 197, 0, 15, 2, 181, 0, 17]
abbrev dktX1_init_0 : List UInt8 := dkwX1_init_0 ++ dktX1_init_1
theorem dksX1_init_0 : cX1_init.data.toList.drop 0 = dktX1_init_0 := by decide +kernel
theorem dksX1_init_1 : cX1_init.data.toList.drop 24 = dktX1_init_1 := dk_seg dksX1_init_0 24 rfl rfl
theorem dksX1_init_2 : cX1_init.data.toList.drop 48 = dktX1_init_2 := dk_seg dksX1_init_1 24 rfl rfl
theorem dksX1_init_3 : cX1_init.data.toList.drop 72 = dktX1_init_3 := dk_seg dksX1_init_2 24 rfl rfl
theorem dX1_init_0 : decode cX1_init 0 = .ok (.aload_n 0, 1) := dk_42 (dk_at dksX1_init_0 0 rfl rfl)
theorem dX1_init_1 : decode cX1_init 1 = .ok (.invokespecial 3, 3) := dk_183 0 3 (dk_at dksX1_init_0 1 rfl rfl)
theorem dX1_init_4 : decode cX1_init 4 = .ok (.aload_n 0, 1) := dk_42 (dk_at dksX1_init_0 4 rfl rfl)
theorem dX1_init_5 : decode cX1_init 5 = .ok (.bipush 10, 2) := dk_16 10 (dk_at dksX1_init_0 5 rfl rfl)
theorem dX1_init_7 : decode cX1_init 7 = .ok (.newarray .int, 2) := dk_188_10 (dk_at dksX1_init_0 7 rfl rfl)
theorem dX1_init_9 : decode cX1_init 9 = .ok (.putfield 9, 3) := dk_181 0 9 (dk_at dksX1_init_0 9 rfl rfl)
theorem dX1_init_12 : decode cX1_init 12 = .ok (.aload_n 0, 1) := dk_42 (dk_at dksX1_init_0 12 rfl rfl)
theorem dX1_init_13 : decode cX1_init 13 = .ok (.bipush 10, 2) := dk_16 10 (dk_at dksX1_init_0 13 rfl rfl)
theorem dX1_init_15 : decode cX1_init 15 = .ok (.bipush 8, 2) := dk_16 8 (dk_at dksX1_init_0 15 rfl rfl)
theorem dX1_init_17 : decode cX1_init 17 = .ok (.multianewarray 15 2, 4) := by decide +kernel
theorem dX1_init_21 : decode cX1_init 21 = .ok (.putfield 17, 3) := dk_181 0 17 (dk_at dksX1_init_0 21 rfl rfl)
theorem dX1_init_24 : decode cX1_init 24 = .ok (.aload_n 0, 1) := dk_42 (dk_at dksX1_init_1 0 rfl rfl)
theorem dX1_init_25 : decode cX1_init 25 = .ok (.bipush 10, 2) := dk_16 10 (dk_at dksX1_init_1 1 rfl rfl)
theorem dX1_init_27 : decode cX1_init 27 = .ok (.bipush 8, 2) := dk_16 8 (dk_at dksX1_init_1 3 rfl rfl)
theorem dX1_init_29 : decode cX1_init 29 = .ok (.multianewarray 15 2, 4) := by decide +kernel
theorem dX1_init_33 : decode cX1_init 33 = .ok (.putfield 20, 3) := dk_181 0 20 (dk_at dksX1_init_1 9 rfl rfl)
theorem dX1_init_36 : decode cX1_init 36 = .ok (.aload_n 0, 1) := dk_42 (dk_at dksX1_init_1 12 rfl rfl)
theorem dX1_init_37 : decode cX1_init 37 = .ok (.new 23, 3) := dk_187 0 23 (dk_at dksX1_init_1 13 rfl rfl)
theorem dX1_init_40 : decode cX1_init 40 = .ok (.dup, 1) := dk_89 (dk_at dksX1_init_1 16 rfl rfl)
theorem dX1_init_41 : decode cX1_init 41 = .ok (.iconst 2, 1) := dk_5 (dk_at dksX1_init_1 17 rfl rfl)
theorem dX1_init_42 : decode cX1_init 42 = .ok (.invokespecial 25, 3) := dk_183 0 25 (dk_at dksX1_init_1 18 rfl rfl)
theorem dX1_init_45 : decode cX1_init 45 = .ok (.putfield 28, 3) := dk_181 0 28 (dk_at dksX1_init_1 21 rfl rfl)
theorem dX1_init_48 : decode cX1_init 48 = .ok (.iconst 0, 1) := dk_3 (dk_at dksX1_init_2 0 rfl rfl)
theorem dX1_init_49 : decode cX1_init 49 = .ok (.istore_n 1, 1) := dk_60 (dk_at dksX1_init_2 1 rfl rfl)
theorem dX1_init_50 : decode cX1_init 50 = .ok (.iload_n 1, 1) := dk_27 (dk_at dksX1_init_2 2 rfl rfl)
theorem dX1_init_51 : decode cX1_init 51 = .ok (.bipush 10, 2) := dk_16 10 (dk_at dksX1_init_2 3 rfl rfl)
theorem dX1_init_53 : decode cX1_init 53 = .ok (.if_icmp .ge 32, 3) := dk_162 0 32 (dk_at dksX1_init_2 5 rfl rfl)
theorem dX1_init_56 : decode cX1_init 56 = .ok (.iconst 0, 1) := dk_3 (dk_at dksX1_init_2 8 rfl rfl)
theorem dX1_init_57 : decode cX1_init 57 = .ok (.istore_n 2, 1) := dk_61 (dk_at dksX1_init_2 9 rfl rfl)
theorem dX1_init_58 : decode cX1_init 58 = .ok (.iload_n 2, 1) := dk_28 (dk_at dksX1_init_2 10 rfl rfl)
theorem dX1_init_59 : decode cX1_init 59 = .ok (.bipush 8, 2) := dk_16 8 (dk_at dksX1_init_2 11 rfl rfl)
theorem dX1_init_61 : decode cX1_init 61 = .ok (.if_icmp .ge 18, 3) := dk_162 0 18 (dk_at dksX1_init_2 13 rfl rfl)
theorem dX1_init_64 : decode cX1_init 64 = .ok (.aload_n 0, 1) := dk_42 (dk_at dksX1_init_2 16 rfl rfl)
theorem dX1_init_65 : decode cX1_init 65 = .ok (.getfield 17, 3) := dk_180 0 17 (dk_at dksX1_init_2 17 rfl rfl)
theorem dX1_init_68 : decode cX1_init 68 = .ok (.iload_n 1, 1) := dk_27 (dk_at dksX1_init_2 20 rfl rfl)
theorem dX1_init_69 : decode cX1_init 69 = .ok (.aaload, 1) := dk_50 (dk_at dksX1_init_2 21 rfl rfl)
theorem dX1_init_70 : decode cX1_init 70 = .ok (.iload_n 2, 1) := dk_28 (dk_at dksX1_init_2 22 rfl rfl)
theorem dX1_init_71 : decode cX1_init 71 = .ok (.iconst 5, 1) := dk_8 (dk_at dksX1_init_2 23 rfl rfl)
theorem dX1_init_72 : decode cX1_init 72 = .ok (.iastore, 1) := dk_79 (dk_at dksX1_init_3 0 rfl rfl)
theorem dX1_init_73 : decode cX1_init 73 = .ok (.iinc 2 1, 3) := dk_132 2 1 (dk_at dksX1_init_3 1 rfl rfl)
theorem dX1_init_76 : decode cX1_init 76 = .ok (.goto (-18), 3) := dk_167 255 238 (dk_at dksX1_init_3 4 rfl rfl)
theorem dX1_init_79 : decode cX1_init 79 = .ok (.iinc 1 1, 3) := dk_132 1 1 (dk_at dksX1_init_3 7 rfl rfl)
theorem dX1_init_82 : decode cX1_init 82 = .ok (.goto (-32), 3) := dk_167 255 224 (dk_at dksX1_init_3 10 rfl rfl)
theorem dX1_init_85 : decode cX1_init 85 = .ok (.return_, 1) := dk_177 (dk_at dksX1_init_3 13 rfl rfl)
abbrev cX1_isNamed : ByteArray := prog_18_method_2_code
def yX1_isNamed : MethodName := ⟨RX1, "isNamed", "(Ljava/lang/String;)Z"⟩
def dkwX1_isNamed_2 : List UInt8 := [167, 255, 215, 3, 172]
abbrev dktX1_isNamed_2 : List UInt8 := dkwX1_isNamed_2 ++ []
def dkwX1_isNamed_1 : List UInt8 := [185, 0, 38, 2, 0, 192, 0, 42, 180, 0, 44, 43, 182, 0, 48, 153, 0, 5, 4, 172, 132, 2, 1]
abbrev dktX1_isNamed_1 : List UInt8 := dkwX1_isNamed_1 ++ dktX1_isNamed_2
def dkwX1_isNamed_0 : List UInt8 := [3, 61, 28, 42, 180, 0, 28, 185, 0, 32, 1, 0, 162, 0, 34, 42, 180, 0, 28, 28]
abbrev dktX1_isNamed_0 : List UInt8 := dkwX1_isNamed_0 ++ dktX1_isNamed_1
theorem dksX1_isNamed_0 : cX1_isNamed.data.toList.drop 0 = dktX1_isNamed_0 := by decide +kernel
theorem dksX1_isNamed_1 : cX1_isNamed.data.toList.drop 20 = dktX1_isNamed_1 := dk_seg dksX1_isNamed_0 20 rfl rfl
theorem dksX1_isNamed_2 : cX1_isNamed.data.toList.drop 43 = dktX1_isNamed_2 := dk_seg dksX1_isNamed_1 23 rfl rfl
theorem dX1_isNamed_0 : decode cX1_isNamed 0 = .ok (.iconst 0, 1) := dk_3 (dk_at dksX1_isNamed_0 0 rfl rfl)
theorem dX1_isNamed_1 : decode cX1_isNamed 1 = .ok (.istore_n 2, 1) := dk_61 (dk_at dksX1_isNamed_0 1 rfl rfl)
theorem dX1_isNamed_2 : decode cX1_isNamed 2 = .ok (.iload_n 2, 1) := dk_28 (dk_at dksX1_isNamed_0 2 rfl rfl)
theorem dX1_isNamed_3 : decode cX1_isNamed 3 = .ok (.aload_n 0, 1) := dk_42 (dk_at dksX1_isNamed_0 3 rfl rfl)
theorem dX1_isNamed_4 : decode cX1_isNamed 4 = .ok (.getfield 28, 3) := dk_180 0 28 (dk_at dksX1_isNamed_0 4 rfl rfl)
theorem dX1_isNamed_7 : decode cX1_isNamed 7 = .ok (.invokeinterface 32 1, 5) := by decide +kernel
theorem dX1_isNamed_12 : decode cX1_isNamed 12 = .ok (.if_icmp .ge 34, 3) := dk_162 0 34 (dk_at dksX1_isNamed_0 12 rfl rfl)
theorem dX1_isNamed_15 : decode cX1_isNamed 15 = .ok (.aload_n 0, 1) := dk_42 (dk_at dksX1_isNamed_0 15 rfl rfl)
theorem dX1_isNamed_16 : decode cX1_isNamed 16 = .ok (.getfield 28, 3) := dk_180 0 28 (dk_at dksX1_isNamed_0 16 rfl rfl)
theorem dX1_isNamed_19 : decode cX1_isNamed 19 = .ok (.iload_n 2, 1) := dk_28 (dk_at dksX1_isNamed_0 19 rfl rfl)
theorem dX1_isNamed_20 : decode cX1_isNamed 20 = .ok (.invokeinterface 38 2, 5) := by decide +kernel
theorem dX1_isNamed_25 : decode cX1_isNamed 25 = .ok (.checkcast 42, 3) := dk_192 0 42 (dk_at dksX1_isNamed_1 5 rfl rfl)
theorem dX1_isNamed_28 : decode cX1_isNamed 28 = .ok (.getfield 44, 3) := dk_180 0 44 (dk_at dksX1_isNamed_1 8 rfl rfl)
theorem dX1_isNamed_31 : decode cX1_isNamed 31 = .ok (.aload_n 1, 1) := dk_43 (dk_at dksX1_isNamed_1 11 rfl rfl)
theorem dX1_isNamed_32 : decode cX1_isNamed 32 = .ok (.invokevirtual 48, 3) := dk_182 0 48 (dk_at dksX1_isNamed_1 12 rfl rfl)
theorem dX1_isNamed_35 : decode cX1_isNamed 35 = .ok (.ifCond .eq 5, 3) := dk_153 0 5 (dk_at dksX1_isNamed_1 15 rfl rfl)
theorem dX1_isNamed_38 : decode cX1_isNamed 38 = .ok (.iconst 1, 1) := dk_4 (dk_at dksX1_isNamed_1 18 rfl rfl)
theorem dX1_isNamed_39 : decode cX1_isNamed 39 = .ok (.ireturn, 1) := dk_172 (dk_at dksX1_isNamed_1 19 rfl rfl)
theorem dX1_isNamed_40 : decode cX1_isNamed 40 = .ok (.iinc 2 1, 3) := dk_132 2 1 (dk_at dksX1_isNamed_1 20 rfl rfl)
theorem dX1_isNamed_43 : decode cX1_isNamed 43 = .ok (.goto (-41), 3) := dk_167 255 215 (dk_at dksX1_isNamed_2 0 rfl rfl)
theorem dX1_isNamed_46 : decode cX1_isNamed 46 = .ok (.iconst 0, 1) := dk_3 (dk_at dksX1_isNamed_2 3 rfl rfl)
theorem dX1_isNamed_47 : decode cX1_isNamed 47 = .ok (.ireturn, 1) := dk_172 (dk_at dksX1_isNamed_2 4 rfl rfl)
theorem q175 : (Jvm.Cond.initialized "BentRiver$Valley") ∈ lw_all := lw_g (lw_at lw_m1 2 rfl) rfl
theorem q221 : (Jvm.Cond.instantiable "BentRiver$Valley" (11 : Nat)) ∈ lw_all := lw_g (lw_at lw_m1 48 rfl) rfl
theorem q223 : (Jvm.Cond.instanceMethod ({ cls := "BentRiver$Valley", name := "<init>", desc := "()V" } : Jvm.MethodName)) ∈ lw_all := lw_g (lw_at lw_m1 50 rfl) rfl
theorem q224 : (Jvm.Cond.code ({ cls := "BentRiver$Valley", name := "<init>", desc := "()V" } : Jvm.MethodName) prog_18_method_1_code (3 : Nat) (Option.none : Option Jvm.ClassFile.FieldType)) ∈ lw_all := lw_g (lw_at lw_m1 51 rfl) rfl
theorem q225 : (Jvm.Cond.methodLink "BentRiver$Valley" (3 : Nat) ({ cls := "java/lang/Object", name := "<init>", desc := "()V" } : Jvm.MethodName)) ∈ lw_all := lw_g (lw_at lw_m1 52 rfl) rfl
theorem q226 : (Jvm.Cond.classLink "BentRiver$Valley" (15 : Nat) "[[I") ∈ lw_all := lw_g (lw_at lw_m1 53 rfl) rfl
theorem q228 : (Jvm.Cond.classLink "BentRiver$Valley" (23 : Nat) "java/util/ArrayList") ∈ lw_all := lw_g (lw_at lw_m1 55 rfl) rfl
theorem q230 : (Jvm.Cond.methodLink "BentRiver$Valley" (25 : Nat) ({ cls := "java/util/ArrayList", name := "<init>", desc := "(I)V" } : Jvm.MethodName)) ∈ lw_all := lw_g (lw_at lw_m1 57 rfl) rfl
theorem q269 : (Jvm.Cond.fieldLink "BentRiver$Valley" (9 : Nat) "BentRiver$Valley" "runs" "[I") ∈ lw_all := lw_g (lw_at lw_m1 96 rfl) rfl
theorem q272 : (Jvm.Cond.fieldLink "BentRiver$Valley" (17 : Nat) "BentRiver$Valley" "soil" "[[I") ∈ lw_all := lw_g (lw_at lw_m1 99 rfl) rfl
theorem q276 : (Jvm.Cond.fieldLink "BentRiver$Valley" (20 : Nat) "BentRiver$Valley" "willows" "[[I") ∈ lw_all := lw_g (lw_at lw_m1 103 rfl) rfl
theorem q279 : (Jvm.Cond.fieldLink "BentRiver$Valley" (28 : Nat) "BentRiver$Valley" "lords" "Ljava/util/List;") ∈ lw_all := lw_g (lw_at lw_m1 106 rfl) rfl
theorem q286 : (Jvm.Cond.lays "BentRiver$Valley" "BentRiver$Valley" "statements" "I") ∈ lw_all := lw_g (lw_at lw_m1 113 rfl) rfl
theorem q287 : (Jvm.Cond.soleField "BentRiver$Valley" "statements") ∈ lw_all := lw_g (lw_at lw_m1 114 rfl) rfl
theorem q288 : (Jvm.Cond.lays "BentRiver$Valley" "BentRiver$Valley" "columns" "I") ∈ lw_all := lw_g (lw_at lw_m1 115 rfl) rfl
theorem q289 : (Jvm.Cond.soleField "BentRiver$Valley" "columns") ∈ lw_all := lw_g (lw_at lw_m1 116 rfl) rfl
theorem q290 : (Jvm.Cond.lays "BentRiver$Valley" "BentRiver$Valley" "rows" "I") ∈ lw_all := lw_g (lw_at lw_m1 117 rfl) rfl
theorem q291 : (Jvm.Cond.soleField "BentRiver$Valley" "rows") ∈ lw_all := lw_g (lw_at lw_m1 118 rfl) rfl
theorem q292 : (Jvm.Cond.lays "BentRiver$Valley" "BentRiver$Valley" "reach" "I") ∈ lw_all := lw_g (lw_at lw_m1 119 rfl) rfl
theorem q293 : (Jvm.Cond.soleField "BentRiver$Valley" "reach") ∈ lw_all := lw_g (lw_at lw_m1 120 rfl) rfl
theorem q294 : (Jvm.Cond.lays "BentRiver$Valley" "BentRiver$Valley" "spate" "I") ∈ lw_all := lw_g (lw_at lw_m1 121 rfl) rfl
theorem q295 : (Jvm.Cond.soleField "BentRiver$Valley" "spate") ∈ lw_all := lw_g (lw_at lw_m1 122 rfl) rfl
theorem q296 : (Jvm.Cond.laysFinal "BentRiver$Valley" "BentRiver$Valley" "runs" "[I") ∈ lw_all := lw_g (lw_at lw_m1 123 rfl) rfl
theorem q297 : (Jvm.Cond.soleField "BentRiver$Valley" "runs") ∈ lw_all := lw_g (lw_at lw_m1 124 rfl) rfl
theorem q298 : (Jvm.Cond.laysFinal "BentRiver$Valley" "BentRiver$Valley" "soil" "[[I") ∈ lw_all := lw_g (lw_at lw_m1 125 rfl) rfl
theorem q299 : (Jvm.Cond.soleField "BentRiver$Valley" "soil") ∈ lw_all := lw_g (lw_at lw_m1 126 rfl) rfl
theorem q300 : (Jvm.Cond.laysFinal "BentRiver$Valley" "BentRiver$Valley" "willows" "[[I") ∈ lw_all := lw_g (lw_at lw_m1 127 rfl) rfl
theorem q301 : (Jvm.Cond.soleField "BentRiver$Valley" "willows") ∈ lw_all := lw_g (lw_at lw_m1 128 rfl) rfl
theorem q302 : (Jvm.Cond.laysFinal "BentRiver$Valley" "BentRiver$Valley" "lords" "Ljava/util/List;") ∈ lw_all := lw_g (lw_at lw_m1 129 rfl) rfl
theorem q303 : (Jvm.Cond.soleField "BentRiver$Valley" "lords") ∈ lw_all := lw_g (lw_at lw_m1 130 rfl) rfl
theorem q304 : (Jvm.Cond.lays "BentRiver$Valley" "BentRiver$Valley" "eats" "LBentRiver$Value;") ∈ lw_all := lw_g (lw_at lw_m1 131 rfl) rfl
theorem q305 : (Jvm.Cond.soleField "BentRiver$Valley" "eats") ∈ lw_all := lw_g (lw_at lw_m1 132 rfl) rfl
theorem q306 : (Jvm.Cond.lays "BentRiver$Valley" "BentRiver$Valley" "bend" "LBentRiver$Test;") ∈ lw_all := lw_g (lw_at lw_m1 133 rfl) rfl
theorem q307 : (Jvm.Cond.soleField "BentRiver$Valley" "bend") ∈ lw_all := lw_g (lw_at lw_m1 134 rfl) rfl
theorem q308 : (Jvm.Cond.superclass "BentRiver$Valley" "java/lang/Object") ∈ lw_all := lw_g (lw_at lw_m1 135 rfl) rfl
theorem q832 : (Jvm.Cond.instanceMethod ({ cls := "BentRiver$Valley", name := "isNamed", desc := "(Ljava/lang/String;)Z" } : Jvm.MethodName)) ∈ lw_all := lw_g (lw_at lw_m3 179 rfl) rfl
theorem q833 : (Jvm.Cond.selects "BentRiver$Valley" ({ cls := "BentRiver$Valley", name := "isNamed", desc := "(Ljava/lang/String;)Z" } : Jvm.MethodName) ({ cls := "BentRiver$Valley", name := "isNamed", desc := "(Ljava/lang/String;)Z" } : Jvm.MethodName)) ∈ lw_all := lw_g (lw_at lw_m3 180 rfl) rfl
theorem q834 : (Jvm.Cond.code ({ cls := "BentRiver$Valley", name := "isNamed", desc := "(Ljava/lang/String;)Z" } : Jvm.MethodName) prog_18_method_2_code (3 : Nat) (Option.some Jvm.ClassFile.FieldType.boolean)) ∈ lw_all := lw_g (lw_at lw_m3 181 rfl) rfl
theorem q835 : (Jvm.Cond.interfaceEntry "BentRiver$Valley" (32 : Nat)) ∈ lw_tbl := lw_at lw_m3 182 rfl
theorem q836 : (Jvm.Cond.methodLink "BentRiver$Valley" (32 : Nat) ({ cls := "java/util/List", name := "size", desc := "()I" } : Jvm.MethodName)) ∈ lw_all := lw_g (lw_at lw_m3 183 rfl) rfl
theorem q837 : (Jvm.Cond.interfaceEntry "BentRiver$Valley" (38 : Nat)) ∈ lw_tbl := lw_at lw_m3 184 rfl
theorem q838 : (Jvm.Cond.methodLink "BentRiver$Valley" (38 : Nat) ({ cls := "java/util/List", name := "get", desc := "(I)Ljava/lang/Object;" } : Jvm.MethodName)) ∈ lw_all := lw_g (lw_at lw_m3 185 rfl) rfl
theorem q856 : (Jvm.Cond.classLink "BentRiver$Valley" (42 : Nat) "BentRiver$Lord") ∈ lw_all := lw_g (lw_at lw_m3 203 rfl) rfl
theorem q857 : (Jvm.Cond.methodLink "BentRiver$Valley" (48 : Nat) ({ cls := "java/lang/String", name := "equals", desc := "(Ljava/lang/Object;)Z" } : Jvm.MethodName)) ∈ lw_all := lw_g (lw_at lw_m3 204 rfl) rfl
theorem q870 : (Jvm.Cond.fieldLinkNest "BentRiver$Valley" (44 : Nat) "BentRiver$Lord" "name" "Ljava/lang/String;" "BentRiver") ∈ lw_tbl := lw_at lw_m3 217 rfl
theorem q953 : (Jvm.Cond.selects "BentRiver$Valley" ({ cls := "java/lang/Object", name := "getClass", desc := "()Ljava/lang/Class;" } : Jvm.MethodName) ({ cls := "java/lang/Object", name := "getClass", desc := "()Ljava/lang/Class;" } : Jvm.MethodName)) ∈ lw_all := lw_g (lw_at lw_m4 60 rfl) rfl
theorem q2766 : (Jvm.Cond.castable "BentRiver$Valley" "java/lang/Object") ∈ lw_tbl := lw_at lw_m11 193 rfl
theorem in_X1 : ∀ w ∈ wsX10, w ∈ lw_all := lw_in wsX10 [286, 288, 290, 292, 294, 296, 298, 300, 302, 304, 306] (by decide +kernel) (by decide +kernel)
/-! BentRiver$Reader -/
set_option maxRecDepth 100000
def RX2 : String := "BentRiver$Reader"
def TX2 : u_T := fun k => match k with
  | 0 => ("BentRiver$Reader", "fault", "LBentRiver$Fault;", true)
  | 1 => ("BentRiver$Reader", "size", "I", false)
  | 2 => ("BentRiver$Reader", "at", "I", false)
  | 3 => ("BentRiver$Reader", "from", "I", false)
  | 4 => ("BentRiver$Reader", "open", "I", false)
  | 5 => ("BentRiver$Reader", "context", "I", false)
  | 6 => ("BentRiver$Reader", "to", "LBentRiver$Valley;", false)
  | _ => ("BentRiver$Reader", "this$0", "LBentRiver;", true)
def tyX2 : Nat → FieldType := fun k => match k with
  | 0 => .object "BentRiver$Fault"
  | 1 => .int
  | 2 => .int
  | 3 => .int
  | 4 => .int
  | 5 => .int
  | 6 => .object "BentRiver$Valley"
  | _ => .object "BentRiver"
abbrev wsX20 : List Cond := u_ws RX2 TX2 8
theorem nmX2 : ∀ a, a < 8 → ∀ b, b < 8 → a ≠ b → (TX2 a).2.1 ≠ (TX2 b).2.1 := by decide +kernel
theorem tyX2_ok : ∀ k, k < 8 → parseFieldDescriptor (TX2 k).2.2.1 = some (tyX2 k) := by decide +kernel
abbrev cX2_init : ByteArray := prog_14_method_1_code
def yX2_init : MethodName := ⟨RX2, "<init>", "(LBentRiver;)V"⟩
def dkwX2_init_0 : List UInt8 := [42, 43, 181, 0, 3, 42, 183, 0, 9, 42, 187, 0, 15, 89, 183, 0, 17, 181, 0, 18, 177]
abbrev dktX2_init_0 : List UInt8 := dkwX2_init_0 ++ []
theorem dksX2_init_0 : cX2_init.data.toList.drop 0 = dktX2_init_0 := by decide +kernel
theorem dX2_init_0 : decode cX2_init 0 = .ok (.aload_n 0, 1) := dk_42 (dk_at dksX2_init_0 0 rfl rfl)
theorem dX2_init_1 : decode cX2_init 1 = .ok (.aload_n 1, 1) := dk_43 (dk_at dksX2_init_0 1 rfl rfl)
theorem dX2_init_2 : decode cX2_init 2 = .ok (.putfield 3, 3) := dk_181 0 3 (dk_at dksX2_init_0 2 rfl rfl)
theorem dX2_init_5 : decode cX2_init 5 = .ok (.aload_n 0, 1) := dk_42 (dk_at dksX2_init_0 5 rfl rfl)
theorem dX2_init_6 : decode cX2_init 6 = .ok (.invokespecial 9, 3) := dk_183 0 9 (dk_at dksX2_init_0 6 rfl rfl)
theorem dX2_init_9 : decode cX2_init 9 = .ok (.aload_n 0, 1) := dk_42 (dk_at dksX2_init_0 9 rfl rfl)
theorem dX2_init_10 : decode cX2_init 10 = .ok (.new 15, 3) := dk_187 0 15 (dk_at dksX2_init_0 10 rfl rfl)
theorem dX2_init_13 : decode cX2_init 13 = .ok (.dup, 1) := dk_89 (dk_at dksX2_init_0 13 rfl rfl)
theorem dX2_init_14 : decode cX2_init 14 = .ok (.invokespecial 17, 3) := dk_183 0 17 (dk_at dksX2_init_0 14 rfl rfl)
theorem dX2_init_17 : decode cX2_init 17 = .ok (.putfield 18, 3) := dk_181 0 18 (dk_at dksX2_init_0 17 rfl rfl)
theorem dX2_init_20 : decode cX2_init 20 = .ok (.return_, 1) := dk_177 (dk_at dksX2_init_0 20 rfl rfl)
abbrev cX2_all : ByteArray := prog_14_method_16_code
def yX2_all : MethodName := ⟨RX2, "all", "(I)LBentRiver$Valley;"⟩
def dkwX2_all_7 : List UInt8 := [182, 0, 142, 42, 16, 59, 182, 0, 127, 167, 255, 178, 42, 180, 0, 100, 176]
abbrev dktX2_all_7 : List UInt8 := dkwX2_all_7 ++ []
def dkwX2_all_6 : List UInt8 := [182, 0, 70, 77, 42, 44, 42, 180, 0, 61, 182, 0, 138, 154, 0, 12, 42, 44, 42, 180, 0, 61]
abbrev dktX2_all_6 : List UInt8 := dkwX2_all_6 ++ dktX2_all_7
def dkwX2_all_5 : List UInt8 := [3, 42, 180, 0, 36, 182, 0, 134, 42, 180, 0, 100, 89, 180, 0, 131, 4, 96, 181, 0, 131, 42]
abbrev dktX2_all_5 : List UInt8 := dkwX2_all_5 ++ dktX2_all_6
def dkwX2_all_4 : List UInt8 := [182, 0, 43, 2, 159, 0, 76, 42, 42, 180, 0, 100, 180, 0, 131, 16, 80, 160, 0, 7, 4, 167, 0, 4]
abbrev dktX2_all_4 : List UInt8 := dkwX2_all_4 ++ dktX2_all_5
def dkwX2_all_3 : List UInt8 := [16, 7, 182, 0, 120, 181, 0, 125, 42, 16, 59, 182, 0, 127, 42, 180, 0, 100, 4, 181, 0, 131, 42]
abbrev dktX2_all_3 : List UInt8 := dkwX2_all_3 ++ dktX2_all_4
def dkwX2_all_2 : List UInt8 := [180, 0, 100, 42, 18, 118, 5, 16, 8, 182, 0, 120, 181, 0, 109, 42, 180, 0, 100, 42, 18, 123, 4]
abbrev dktX2_all_2 : List UInt8 := dkwX2_all_2 ++ dktX2_all_3
def dkwX2_all_1 : List UInt8 := [181, 0, 113, 42, 18, 116, 182, 0, 93, 42, 180, 0, 100, 42, 6, 16, 10, 182, 0, 96, 181, 0, 104, 42]
abbrev dktX2_all_1 : List UInt8 := dkwX2_all_1 ++ dktX2_all_2
def dkwX2_all_0 : List UInt8 := [42, 187, 0, 105, 89, 183, 0, 112, 181, 0, 100, 42, 27, 181, 0, 29, 42, 3, 181, 0, 36, 42, 3]
abbrev dktX2_all_0 : List UInt8 := dkwX2_all_0 ++ dktX2_all_1
theorem dksX2_all_0 : cX2_all.data.toList.drop 0 = dktX2_all_0 := by decide +kernel
theorem dksX2_all_1 : cX2_all.data.toList.drop 23 = dktX2_all_1 := dk_seg dksX2_all_0 23 rfl rfl
theorem dksX2_all_2 : cX2_all.data.toList.drop 47 = dktX2_all_2 := dk_seg dksX2_all_1 24 rfl rfl
theorem dksX2_all_3 : cX2_all.data.toList.drop 70 = dktX2_all_3 := dk_seg dksX2_all_2 23 rfl rfl
theorem dksX2_all_4 : cX2_all.data.toList.drop 93 = dktX2_all_4 := dk_seg dksX2_all_3 23 rfl rfl
theorem dksX2_all_5 : cX2_all.data.toList.drop 117 = dktX2_all_5 := dk_seg dksX2_all_4 24 rfl rfl
theorem dksX2_all_6 : cX2_all.data.toList.drop 139 = dktX2_all_6 := dk_seg dksX2_all_5 22 rfl rfl
theorem dksX2_all_7 : cX2_all.data.toList.drop 161 = dktX2_all_7 := dk_seg dksX2_all_6 22 rfl rfl
theorem dX2_all_0 : decode cX2_all 0 = .ok (.aload_n 0, 1) := dk_42 (dk_at dksX2_all_0 0 rfl rfl)
theorem dX2_all_1 : decode cX2_all 1 = .ok (.new 105, 3) := dk_187 0 105 (dk_at dksX2_all_0 1 rfl rfl)
theorem dX2_all_4 : decode cX2_all 4 = .ok (.dup, 1) := dk_89 (dk_at dksX2_all_0 4 rfl rfl)
theorem dX2_all_5 : decode cX2_all 5 = .ok (.invokespecial 112, 3) := dk_183 0 112 (dk_at dksX2_all_0 5 rfl rfl)
theorem dX2_all_8 : decode cX2_all 8 = .ok (.putfield 100, 3) := dk_181 0 100 (dk_at dksX2_all_0 8 rfl rfl)
theorem dX2_all_11 : decode cX2_all 11 = .ok (.aload_n 0, 1) := dk_42 (dk_at dksX2_all_0 11 rfl rfl)
theorem dX2_all_12 : decode cX2_all 12 = .ok (.iload_n 1, 1) := dk_27 (dk_at dksX2_all_0 12 rfl rfl)
theorem dX2_all_13 : decode cX2_all 13 = .ok (.putfield 29, 3) := dk_181 0 29 (dk_at dksX2_all_0 13 rfl rfl)
theorem dX2_all_16 : decode cX2_all 16 = .ok (.aload_n 0, 1) := dk_42 (dk_at dksX2_all_0 16 rfl rfl)
theorem dX2_all_17 : decode cX2_all 17 = .ok (.iconst 0, 1) := dk_3 (dk_at dksX2_all_0 17 rfl rfl)
theorem dX2_all_18 : decode cX2_all 18 = .ok (.putfield 36, 3) := dk_181 0 36 (dk_at dksX2_all_0 18 rfl rfl)
theorem dX2_all_21 : decode cX2_all 21 = .ok (.aload_n 0, 1) := dk_42 (dk_at dksX2_all_0 21 rfl rfl)
theorem dX2_all_22 : decode cX2_all 22 = .ok (.iconst 0, 1) := dk_3 (dk_at dksX2_all_0 22 rfl rfl)
theorem dX2_all_23 : decode cX2_all 23 = .ok (.putfield 113, 3) := dk_181 0 113 (dk_at dksX2_all_1 0 rfl rfl)
theorem dX2_all_26 : decode cX2_all 26 = .ok (.aload_n 0, 1) := dk_42 (dk_at dksX2_all_1 3 rfl rfl)
theorem dX2_all_27 : decode cX2_all 27 = .ok (.ldc 116, 2) := dk_18 116 (dk_at dksX2_all_1 4 rfl rfl)
theorem dX2_all_29 : decode cX2_all 29 = .ok (.invokevirtual 93, 3) := dk_182 0 93 (dk_at dksX2_all_1 6 rfl rfl)
theorem dX2_all_32 : decode cX2_all 32 = .ok (.aload_n 0, 1) := dk_42 (dk_at dksX2_all_1 9 rfl rfl)
theorem dX2_all_33 : decode cX2_all 33 = .ok (.getfield 100, 3) := dk_180 0 100 (dk_at dksX2_all_1 10 rfl rfl)
theorem dX2_all_36 : decode cX2_all 36 = .ok (.aload_n 0, 1) := dk_42 (dk_at dksX2_all_1 13 rfl rfl)
theorem dX2_all_37 : decode cX2_all 37 = .ok (.iconst 3, 1) := dk_6 (dk_at dksX2_all_1 14 rfl rfl)
theorem dX2_all_38 : decode cX2_all 38 = .ok (.bipush 10, 2) := dk_16 10 (dk_at dksX2_all_1 15 rfl rfl)
theorem dX2_all_40 : decode cX2_all 40 = .ok (.invokevirtual 96, 3) := dk_182 0 96 (dk_at dksX2_all_1 17 rfl rfl)
theorem dX2_all_43 : decode cX2_all 43 = .ok (.putfield 104, 3) := dk_181 0 104 (dk_at dksX2_all_1 20 rfl rfl)
theorem dX2_all_46 : decode cX2_all 46 = .ok (.aload_n 0, 1) := dk_42 (dk_at dksX2_all_1 23 rfl rfl)
theorem dX2_all_47 : decode cX2_all 47 = .ok (.getfield 100, 3) := dk_180 0 100 (dk_at dksX2_all_2 0 rfl rfl)
theorem dX2_all_50 : decode cX2_all 50 = .ok (.aload_n 0, 1) := dk_42 (dk_at dksX2_all_2 3 rfl rfl)
theorem dX2_all_51 : decode cX2_all 51 = .ok (.ldc 118, 2) := dk_18 118 (dk_at dksX2_all_2 4 rfl rfl)
theorem dX2_all_53 : decode cX2_all 53 = .ok (.iconst 2, 1) := dk_5 (dk_at dksX2_all_2 6 rfl rfl)
theorem dX2_all_54 : decode cX2_all 54 = .ok (.bipush 8, 2) := dk_16 8 (dk_at dksX2_all_2 7 rfl rfl)
theorem dX2_all_56 : decode cX2_all 56 = .ok (.invokevirtual 120, 3) := dk_182 0 120 (dk_at dksX2_all_2 9 rfl rfl)
theorem dX2_all_59 : decode cX2_all 59 = .ok (.putfield 109, 3) := dk_181 0 109 (dk_at dksX2_all_2 12 rfl rfl)
theorem dX2_all_62 : decode cX2_all 62 = .ok (.aload_n 0, 1) := dk_42 (dk_at dksX2_all_2 15 rfl rfl)
theorem dX2_all_63 : decode cX2_all 63 = .ok (.getfield 100, 3) := dk_180 0 100 (dk_at dksX2_all_2 16 rfl rfl)
theorem dX2_all_66 : decode cX2_all 66 = .ok (.aload_n 0, 1) := dk_42 (dk_at dksX2_all_2 19 rfl rfl)
theorem dX2_all_67 : decode cX2_all 67 = .ok (.ldc 123, 2) := dk_18 123 (dk_at dksX2_all_2 20 rfl rfl)
theorem dX2_all_69 : decode cX2_all 69 = .ok (.iconst 1, 1) := dk_4 (dk_at dksX2_all_2 22 rfl rfl)
theorem dX2_all_70 : decode cX2_all 70 = .ok (.bipush 7, 2) := dk_16 7 (dk_at dksX2_all_3 0 rfl rfl)
theorem dX2_all_72 : decode cX2_all 72 = .ok (.invokevirtual 120, 3) := dk_182 0 120 (dk_at dksX2_all_3 2 rfl rfl)
theorem dX2_all_75 : decode cX2_all 75 = .ok (.putfield 125, 3) := dk_181 0 125 (dk_at dksX2_all_3 5 rfl rfl)
theorem dX2_all_78 : decode cX2_all 78 = .ok (.aload_n 0, 1) := dk_42 (dk_at dksX2_all_3 8 rfl rfl)
theorem dX2_all_79 : decode cX2_all 79 = .ok (.bipush 59, 2) := dk_16 59 (dk_at dksX2_all_3 9 rfl rfl)
theorem dX2_all_81 : decode cX2_all 81 = .ok (.invokevirtual 127, 3) := dk_182 0 127 (dk_at dksX2_all_3 11 rfl rfl)
theorem dX2_all_84 : decode cX2_all 84 = .ok (.aload_n 0, 1) := dk_42 (dk_at dksX2_all_3 14 rfl rfl)
theorem dX2_all_85 : decode cX2_all 85 = .ok (.getfield 100, 3) := dk_180 0 100 (dk_at dksX2_all_3 15 rfl rfl)
theorem dX2_all_88 : decode cX2_all 88 = .ok (.iconst 1, 1) := dk_4 (dk_at dksX2_all_3 18 rfl rfl)
theorem dX2_all_89 : decode cX2_all 89 = .ok (.putfield 131, 3) := dk_181 0 131 (dk_at dksX2_all_3 19 rfl rfl)
theorem dX2_all_92 : decode cX2_all 92 = .ok (.aload_n 0, 1) := dk_42 (dk_at dksX2_all_3 22 rfl rfl)
theorem dX2_all_93 : decode cX2_all 93 = .ok (.invokevirtual 43, 3) := dk_182 0 43 (dk_at dksX2_all_4 0 rfl rfl)
theorem dX2_all_96 : decode cX2_all 96 = .ok (.iconst (-1), 1) := dk_2 (dk_at dksX2_all_4 3 rfl rfl)
theorem dX2_all_97 : decode cX2_all 97 = .ok (.if_icmp .eq 76, 3) := dk_159 0 76 (dk_at dksX2_all_4 4 rfl rfl)
theorem dX2_all_100 : decode cX2_all 100 = .ok (.aload_n 0, 1) := dk_42 (dk_at dksX2_all_4 7 rfl rfl)
theorem dX2_all_101 : decode cX2_all 101 = .ok (.aload_n 0, 1) := dk_42 (dk_at dksX2_all_4 8 rfl rfl)
theorem dX2_all_102 : decode cX2_all 102 = .ok (.getfield 100, 3) := dk_180 0 100 (dk_at dksX2_all_4 9 rfl rfl)
theorem dX2_all_105 : decode cX2_all 105 = .ok (.getfield 131, 3) := dk_180 0 131 (dk_at dksX2_all_4 12 rfl rfl)
theorem dX2_all_108 : decode cX2_all 108 = .ok (.bipush 80, 2) := dk_16 80 (dk_at dksX2_all_4 15 rfl rfl)
theorem dX2_all_110 : decode cX2_all 110 = .ok (.if_icmp .ne 7, 3) := dk_160 0 7 (dk_at dksX2_all_4 17 rfl rfl)
theorem dX2_all_113 : decode cX2_all 113 = .ok (.iconst 1, 1) := dk_4 (dk_at dksX2_all_4 20 rfl rfl)
theorem dX2_all_114 : decode cX2_all 114 = .ok (.goto 4, 3) := dk_167 0 4 (dk_at dksX2_all_4 21 rfl rfl)
theorem dX2_all_117 : decode cX2_all 117 = .ok (.iconst 0, 1) := dk_3 (dk_at dksX2_all_5 0 rfl rfl)
theorem dX2_all_118 : decode cX2_all 118 = .ok (.aload_n 0, 1) := dk_42 (dk_at dksX2_all_5 1 rfl rfl)
theorem dX2_all_119 : decode cX2_all 119 = .ok (.getfield 36, 3) := dk_180 0 36 (dk_at dksX2_all_5 2 rfl rfl)
theorem dX2_all_122 : decode cX2_all 122 = .ok (.invokevirtual 134, 3) := dk_182 0 134 (dk_at dksX2_all_5 5 rfl rfl)
theorem dX2_all_125 : decode cX2_all 125 = .ok (.aload_n 0, 1) := dk_42 (dk_at dksX2_all_5 8 rfl rfl)
theorem dX2_all_126 : decode cX2_all 126 = .ok (.getfield 100, 3) := dk_180 0 100 (dk_at dksX2_all_5 9 rfl rfl)
theorem dX2_all_129 : decode cX2_all 129 = .ok (.dup, 1) := dk_89 (dk_at dksX2_all_5 12 rfl rfl)
theorem dX2_all_130 : decode cX2_all 130 = .ok (.getfield 131, 3) := dk_180 0 131 (dk_at dksX2_all_5 13 rfl rfl)
theorem dX2_all_133 : decode cX2_all 133 = .ok (.iconst 1, 1) := dk_4 (dk_at dksX2_all_5 16 rfl rfl)
theorem dX2_all_134 : decode cX2_all 134 = .ok (.iadd, 1) := dk_96 (dk_at dksX2_all_5 17 rfl rfl)
theorem dX2_all_135 : decode cX2_all 135 = .ok (.putfield 131, 3) := dk_181 0 131 (dk_at dksX2_all_5 18 rfl rfl)
theorem dX2_all_138 : decode cX2_all 138 = .ok (.aload_n 0, 1) := dk_42 (dk_at dksX2_all_5 21 rfl rfl)
theorem dX2_all_139 : decode cX2_all 139 = .ok (.invokevirtual 70, 3) := dk_182 0 70 (dk_at dksX2_all_6 0 rfl rfl)
theorem dX2_all_142 : decode cX2_all 142 = .ok (.astore_n 2, 1) := dk_77 (dk_at dksX2_all_6 3 rfl rfl)
theorem dX2_all_143 : decode cX2_all 143 = .ok (.aload_n 0, 1) := dk_42 (dk_at dksX2_all_6 4 rfl rfl)
theorem dX2_all_144 : decode cX2_all 144 = .ok (.aload_n 2, 1) := dk_44 (dk_at dksX2_all_6 5 rfl rfl)
theorem dX2_all_145 : decode cX2_all 145 = .ok (.aload_n 0, 1) := dk_42 (dk_at dksX2_all_6 6 rfl rfl)
theorem dX2_all_146 : decode cX2_all 146 = .ok (.getfield 61, 3) := dk_180 0 61 (dk_at dksX2_all_6 7 rfl rfl)
theorem dX2_all_149 : decode cX2_all 149 = .ok (.invokevirtual 138, 3) := dk_182 0 138 (dk_at dksX2_all_6 10 rfl rfl)
theorem dX2_all_152 : decode cX2_all 152 = .ok (.ifCond .ne 12, 3) := dk_154 0 12 (dk_at dksX2_all_6 13 rfl rfl)
theorem dX2_all_155 : decode cX2_all 155 = .ok (.aload_n 0, 1) := dk_42 (dk_at dksX2_all_6 16 rfl rfl)
theorem dX2_all_156 : decode cX2_all 156 = .ok (.aload_n 2, 1) := dk_44 (dk_at dksX2_all_6 17 rfl rfl)
theorem dX2_all_157 : decode cX2_all 157 = .ok (.aload_n 0, 1) := dk_42 (dk_at dksX2_all_6 18 rfl rfl)
theorem dX2_all_158 : decode cX2_all 158 = .ok (.getfield 61, 3) := dk_180 0 61 (dk_at dksX2_all_6 19 rfl rfl)
theorem dX2_all_161 : decode cX2_all 161 = .ok (.invokevirtual 142, 3) := dk_182 0 142 (dk_at dksX2_all_7 0 rfl rfl)
theorem dX2_all_164 : decode cX2_all 164 = .ok (.aload_n 0, 1) := dk_42 (dk_at dksX2_all_7 3 rfl rfl)
theorem dX2_all_165 : decode cX2_all 165 = .ok (.bipush 59, 2) := dk_16 59 (dk_at dksX2_all_7 4 rfl rfl)
theorem dX2_all_167 : decode cX2_all 167 = .ok (.invokevirtual 127, 3) := dk_182 0 127 (dk_at dksX2_all_7 6 rfl rfl)
theorem dX2_all_170 : decode cX2_all 170 = .ok (.goto (-78), 3) := dk_167 255 178 (dk_at dksX2_all_7 9 rfl rfl)
theorem dX2_all_173 : decode cX2_all 173 = .ok (.aload_n 0, 1) := dk_42 (dk_at dksX2_all_7 12 rfl rfl)
theorem dX2_all_174 : decode cX2_all 174 = .ok (.getfield 100, 3) := dk_180 0 100 (dk_at dksX2_all_7 13 rfl rfl)
theorem dX2_all_177 : decode cX2_all 177 = .ok (.areturn, 1) := dk_176 (dk_at dksX2_all_7 16 rfl rfl)
abbrev cX2_word : ByteArray := prog_14_method_8_code
def yX2_word : MethodName := ⟨RX2, "word", "(Ljava/lang/String;)V"⟩
def dkwX2_word_0 : List UInt8 := [42, 182, 0, 70, 43, 182, 0, 74, 154, 0, 13, 42, 4, 42, 180, 0, 61, 182, 0, 47, 191, 177]
abbrev dktX2_word_0 : List UInt8 := dkwX2_word_0 ++ []
theorem dksX2_word_0 : cX2_word.data.toList.drop 0 = dktX2_word_0 := by decide +kernel
theorem dX2_word_0 : decode cX2_word 0 = .ok (.aload_n 0, 1) := dk_42 (dk_at dksX2_word_0 0 rfl rfl)
theorem dX2_word_1 : decode cX2_word 1 = .ok (.invokevirtual 70, 3) := dk_182 0 70 (dk_at dksX2_word_0 1 rfl rfl)
theorem dX2_word_4 : decode cX2_word 4 = .ok (.aload_n 1, 1) := dk_43 (dk_at dksX2_word_0 4 rfl rfl)
theorem dX2_word_5 : decode cX2_word 5 = .ok (.invokevirtual 74, 3) := dk_182 0 74 (dk_at dksX2_word_0 5 rfl rfl)
theorem dX2_word_8 : decode cX2_word 8 = .ok (.ifCond .ne 13, 3) := dk_154 0 13 (dk_at dksX2_word_0 8 rfl rfl)
theorem dX2_word_11 : decode cX2_word 11 = .ok (.aload_n 0, 1) := dk_42 (dk_at dksX2_word_0 11 rfl rfl)
theorem dX2_word_12 : decode cX2_word 12 = .ok (.iconst 1, 1) := dk_4 (dk_at dksX2_word_0 12 rfl rfl)
theorem dX2_word_13 : decode cX2_word 13 = .ok (.aload_n 0, 1) := dk_42 (dk_at dksX2_word_0 13 rfl rfl)
theorem dX2_word_14 : decode cX2_word 14 = .ok (.getfield 61, 3) := dk_180 0 61 (dk_at dksX2_word_0 14 rfl rfl)
theorem dX2_word_17 : decode cX2_word 17 = .ok (.invokevirtual 47, 3) := dk_182 0 47 (dk_at dksX2_word_0 17 rfl rfl)
theorem dX2_word_20 : decode cX2_word 20 = .ok (.athrow, 1) := dk_191 (dk_at dksX2_word_0 20 rfl rfl)
theorem dX2_word_21 : decode cX2_word 21 = .ok (.return_, 1) := dk_177 (dk_at dksX2_word_0 21 rfl rfl)
abbrev cX2_word_2 : ByteArray := prog_14_method_7_code
def yX2_word_2 : MethodName := ⟨RX2, "word", "()Ljava/lang/String;"⟩
def dkwX2_word_2_4 : List UInt8 := [180, 0, 32, 28, 51, 146, 85, 132, 2, 1, 167, 255, 227, 43, 184, 0, 64, 176]
abbrev dktX2_word_2_4 : List UInt8 := dkwX2_word_2_4 ++ []
def dkwX2_word_2_3 : List UInt8 := [180, 0, 61, 61, 28, 42, 180, 0, 36, 162, 0, 27, 43, 28, 42, 180, 0, 61, 100, 42, 180, 0, 3]
abbrev dktX2_word_2_3 : List UInt8 := dkwX2_word_2_3 ++ dktX2_word_2_4
def dkwX2_word_2_2 : List UInt8 := [180, 0, 36, 4, 96, 181, 0, 36, 167, 255, 232, 42, 180, 0, 36, 42, 180, 0, 61, 100, 188, 5, 76, 42]
abbrev dktX2_word_2_2 : List UInt8 := dkwX2_word_2_2 ++ dktX2_word_2_3
def dkwX2_word_2_1 : List UInt8 := [42, 42, 180, 0, 36, 181, 0, 61, 42, 42, 180, 0, 36, 182, 0, 39, 184, 0, 51, 153, 0, 16, 42, 89]
abbrev dktX2_word_2_1 : List UInt8 := dkwX2_word_2_1 ++ dktX2_word_2_2
def dkwX2_word_2_0 : List UInt8 := [42, 182, 0, 43, 184, 0, 51, 154, 0, 13, 42, 4, 42, 180, 0, 36, 182, 0, 47, 191, 42, 182, 0, 58]
abbrev dktX2_word_2_0 : List UInt8 := dkwX2_word_2_0 ++ dktX2_word_2_1
theorem dksX2_word_2_0 : cX2_word_2.data.toList.drop 0 = dktX2_word_2_0 := by decide +kernel
theorem dksX2_word_2_1 : cX2_word_2.data.toList.drop 24 = dktX2_word_2_1 := dk_seg dksX2_word_2_0 24 rfl rfl
theorem dksX2_word_2_2 : cX2_word_2.data.toList.drop 48 = dktX2_word_2_2 := dk_seg dksX2_word_2_1 24 rfl rfl
theorem dksX2_word_2_3 : cX2_word_2.data.toList.drop 72 = dktX2_word_2_3 := dk_seg dksX2_word_2_2 24 rfl rfl
theorem dksX2_word_2_4 : cX2_word_2.data.toList.drop 95 = dktX2_word_2_4 := dk_seg dksX2_word_2_3 23 rfl rfl
theorem dX2_word_2_0 : decode cX2_word_2 0 = .ok (.aload_n 0, 1) := dk_42 (dk_at dksX2_word_2_0 0 rfl rfl)
theorem dX2_word_2_1 : decode cX2_word_2 1 = .ok (.invokevirtual 43, 3) := dk_182 0 43 (dk_at dksX2_word_2_0 1 rfl rfl)
theorem dX2_word_2_4 : decode cX2_word_2 4 = .ok (.invokestatic 51, 3) := dk_184 0 51 (dk_at dksX2_word_2_0 4 rfl rfl)
theorem dX2_word_2_7 : decode cX2_word_2 7 = .ok (.ifCond .ne 13, 3) := dk_154 0 13 (dk_at dksX2_word_2_0 7 rfl rfl)
theorem dX2_word_2_10 : decode cX2_word_2 10 = .ok (.aload_n 0, 1) := dk_42 (dk_at dksX2_word_2_0 10 rfl rfl)
theorem dX2_word_2_11 : decode cX2_word_2 11 = .ok (.iconst 1, 1) := dk_4 (dk_at dksX2_word_2_0 11 rfl rfl)
theorem dX2_word_2_12 : decode cX2_word_2 12 = .ok (.aload_n 0, 1) := dk_42 (dk_at dksX2_word_2_0 12 rfl rfl)
theorem dX2_word_2_13 : decode cX2_word_2 13 = .ok (.getfield 36, 3) := dk_180 0 36 (dk_at dksX2_word_2_0 13 rfl rfl)
theorem dX2_word_2_16 : decode cX2_word_2 16 = .ok (.invokevirtual 47, 3) := dk_182 0 47 (dk_at dksX2_word_2_0 16 rfl rfl)
theorem dX2_word_2_19 : decode cX2_word_2 19 = .ok (.athrow, 1) := dk_191 (dk_at dksX2_word_2_0 19 rfl rfl)
theorem dX2_word_2_20 : decode cX2_word_2 20 = .ok (.aload_n 0, 1) := dk_42 (dk_at dksX2_word_2_0 20 rfl rfl)
theorem dX2_word_2_21 : decode cX2_word_2 21 = .ok (.invokevirtual 58, 3) := dk_182 0 58 (dk_at dksX2_word_2_0 21 rfl rfl)
theorem dX2_word_2_24 : decode cX2_word_2 24 = .ok (.aload_n 0, 1) := dk_42 (dk_at dksX2_word_2_1 0 rfl rfl)
theorem dX2_word_2_25 : decode cX2_word_2 25 = .ok (.aload_n 0, 1) := dk_42 (dk_at dksX2_word_2_1 1 rfl rfl)
theorem dX2_word_2_26 : decode cX2_word_2 26 = .ok (.getfield 36, 3) := dk_180 0 36 (dk_at dksX2_word_2_1 2 rfl rfl)
theorem dX2_word_2_29 : decode cX2_word_2 29 = .ok (.putfield 61, 3) := dk_181 0 61 (dk_at dksX2_word_2_1 5 rfl rfl)
theorem dX2_word_2_32 : decode cX2_word_2 32 = .ok (.aload_n 0, 1) := dk_42 (dk_at dksX2_word_2_1 8 rfl rfl)
theorem dX2_word_2_33 : decode cX2_word_2 33 = .ok (.aload_n 0, 1) := dk_42 (dk_at dksX2_word_2_1 9 rfl rfl)
theorem dX2_word_2_34 : decode cX2_word_2 34 = .ok (.getfield 36, 3) := dk_180 0 36 (dk_at dksX2_word_2_1 10 rfl rfl)
theorem dX2_word_2_37 : decode cX2_word_2 37 = .ok (.invokevirtual 39, 3) := dk_182 0 39 (dk_at dksX2_word_2_1 13 rfl rfl)
theorem dX2_word_2_40 : decode cX2_word_2 40 = .ok (.invokestatic 51, 3) := dk_184 0 51 (dk_at dksX2_word_2_1 16 rfl rfl)
theorem dX2_word_2_43 : decode cX2_word_2 43 = .ok (.ifCond .eq 16, 3) := dk_153 0 16 (dk_at dksX2_word_2_1 19 rfl rfl)
theorem dX2_word_2_46 : decode cX2_word_2 46 = .ok (.aload_n 0, 1) := dk_42 (dk_at dksX2_word_2_1 22 rfl rfl)
theorem dX2_word_2_47 : decode cX2_word_2 47 = .ok (.dup, 1) := dk_89 (dk_at dksX2_word_2_1 23 rfl rfl)
theorem dX2_word_2_48 : decode cX2_word_2 48 = .ok (.getfield 36, 3) := dk_180 0 36 (dk_at dksX2_word_2_2 0 rfl rfl)
theorem dX2_word_2_51 : decode cX2_word_2 51 = .ok (.iconst 1, 1) := dk_4 (dk_at dksX2_word_2_2 3 rfl rfl)
theorem dX2_word_2_52 : decode cX2_word_2 52 = .ok (.iadd, 1) := dk_96 (dk_at dksX2_word_2_2 4 rfl rfl)
theorem dX2_word_2_53 : decode cX2_word_2 53 = .ok (.putfield 36, 3) := dk_181 0 36 (dk_at dksX2_word_2_2 5 rfl rfl)
theorem dX2_word_2_56 : decode cX2_word_2 56 = .ok (.goto (-24), 3) := dk_167 255 232 (dk_at dksX2_word_2_2 8 rfl rfl)
theorem dX2_word_2_59 : decode cX2_word_2 59 = .ok (.aload_n 0, 1) := dk_42 (dk_at dksX2_word_2_2 11 rfl rfl)
theorem dX2_word_2_60 : decode cX2_word_2 60 = .ok (.getfield 36, 3) := dk_180 0 36 (dk_at dksX2_word_2_2 12 rfl rfl)
theorem dX2_word_2_63 : decode cX2_word_2 63 = .ok (.aload_n 0, 1) := dk_42 (dk_at dksX2_word_2_2 15 rfl rfl)
theorem dX2_word_2_64 : decode cX2_word_2 64 = .ok (.getfield 61, 3) := dk_180 0 61 (dk_at dksX2_word_2_2 16 rfl rfl)
theorem dX2_word_2_67 : decode cX2_word_2 67 = .ok (.isub, 1) := dk_100 (dk_at dksX2_word_2_2 19 rfl rfl)
theorem dX2_word_2_68 : decode cX2_word_2 68 = .ok (.newarray .char, 2) := dk_188_5 (dk_at dksX2_word_2_2 20 rfl rfl)
theorem dX2_word_2_70 : decode cX2_word_2 70 = .ok (.astore_n 1, 1) := dk_76 (dk_at dksX2_word_2_2 22 rfl rfl)
theorem dX2_word_2_71 : decode cX2_word_2 71 = .ok (.aload_n 0, 1) := dk_42 (dk_at dksX2_word_2_2 23 rfl rfl)
theorem dX2_word_2_72 : decode cX2_word_2 72 = .ok (.getfield 61, 3) := dk_180 0 61 (dk_at dksX2_word_2_3 0 rfl rfl)
theorem dX2_word_2_75 : decode cX2_word_2 75 = .ok (.istore_n 2, 1) := dk_61 (dk_at dksX2_word_2_3 3 rfl rfl)
theorem dX2_word_2_76 : decode cX2_word_2 76 = .ok (.iload_n 2, 1) := dk_28 (dk_at dksX2_word_2_3 4 rfl rfl)
theorem dX2_word_2_77 : decode cX2_word_2 77 = .ok (.aload_n 0, 1) := dk_42 (dk_at dksX2_word_2_3 5 rfl rfl)
theorem dX2_word_2_78 : decode cX2_word_2 78 = .ok (.getfield 36, 3) := dk_180 0 36 (dk_at dksX2_word_2_3 6 rfl rfl)
theorem dX2_word_2_81 : decode cX2_word_2 81 = .ok (.if_icmp .ge 27, 3) := dk_162 0 27 (dk_at dksX2_word_2_3 9 rfl rfl)
theorem dX2_word_2_84 : decode cX2_word_2 84 = .ok (.aload_n 1, 1) := dk_43 (dk_at dksX2_word_2_3 12 rfl rfl)
theorem dX2_word_2_85 : decode cX2_word_2 85 = .ok (.iload_n 2, 1) := dk_28 (dk_at dksX2_word_2_3 13 rfl rfl)
theorem dX2_word_2_86 : decode cX2_word_2 86 = .ok (.aload_n 0, 1) := dk_42 (dk_at dksX2_word_2_3 14 rfl rfl)
theorem dX2_word_2_87 : decode cX2_word_2 87 = .ok (.getfield 61, 3) := dk_180 0 61 (dk_at dksX2_word_2_3 15 rfl rfl)
theorem dX2_word_2_90 : decode cX2_word_2 90 = .ok (.isub, 1) := dk_100 (dk_at dksX2_word_2_3 18 rfl rfl)
theorem dX2_word_2_91 : decode cX2_word_2 91 = .ok (.aload_n 0, 1) := dk_42 (dk_at dksX2_word_2_3 19 rfl rfl)
theorem dX2_word_2_92 : decode cX2_word_2 92 = .ok (.getfield 3, 3) := dk_180 0 3 (dk_at dksX2_word_2_3 20 rfl rfl)
theorem dX2_word_2_95 : decode cX2_word_2 95 = .ok (.getfield 32, 3) := dk_180 0 32 (dk_at dksX2_word_2_4 0 rfl rfl)
theorem dX2_word_2_98 : decode cX2_word_2 98 = .ok (.iload_n 2, 1) := dk_28 (dk_at dksX2_word_2_4 3 rfl rfl)
theorem dX2_word_2_99 : decode cX2_word_2 99 = .ok (.baload, 1) := dk_51 (dk_at dksX2_word_2_4 4 rfl rfl)
theorem dX2_word_2_100 : decode cX2_word_2 100 = .ok (.i2c, 1) := dk_146 (dk_at dksX2_word_2_4 5 rfl rfl)
theorem dX2_word_2_101 : decode cX2_word_2 101 = .ok (.castore, 1) := dk_85 (dk_at dksX2_word_2_4 6 rfl rfl)
theorem dX2_word_2_102 : decode cX2_word_2 102 = .ok (.iinc 2 1, 3) := dk_132 2 1 (dk_at dksX2_word_2_4 7 rfl rfl)
theorem dX2_word_2_105 : decode cX2_word_2 105 = .ok (.goto (-29), 3) := dk_167 255 227 (dk_at dksX2_word_2_4 10 rfl rfl)
theorem dX2_word_2_108 : decode cX2_word_2 108 = .ok (.aload_n 1, 1) := dk_43 (dk_at dksX2_word_2_4 13 rfl rfl)
theorem dX2_word_2_109 : decode cX2_word_2 109 = .ok (.invokestatic 64, 3) := dk_184 0 64 (dk_at dksX2_word_2_4 14 rfl rfl)
theorem dX2_word_2_112 : decode cX2_word_2 112 = .ok (.areturn, 1) := dk_176 (dk_at dksX2_word_2_4 17 rfl rfl)
abbrev cX2_here : ByteArray := prog_14_method_4_code
def yX2_here : MethodName := ⟨RX2, "here", "()I"⟩
def dkwX2_here_2 : List UInt8 := [172]
abbrev dktX2_here_2 : List UInt8 := dkwX2_here_2 ++ []
def dkwX2_here_1 : List UInt8 := [160, 0, 16, 42, 89, 180, 0, 36, 4, 96, 181, 0, 36, 167, 255, 220, 42, 42, 180, 0, 36, 182, 0, 39]
abbrev dktX2_here_1 : List UInt8 := dkwX2_here_1 ++ dktX2_here_2
def dkwX2_here_0 : List UInt8 := [42, 42, 180, 0, 36, 182, 0, 39, 16, 32, 159, 0, 16, 42, 42, 180, 0, 36, 182, 0, 39, 16, 10]
abbrev dktX2_here_0 : List UInt8 := dkwX2_here_0 ++ dktX2_here_1
theorem dksX2_here_0 : cX2_here.data.toList.drop 0 = dktX2_here_0 := by decide +kernel
theorem dksX2_here_1 : cX2_here.data.toList.drop 23 = dktX2_here_1 := dk_seg dksX2_here_0 23 rfl rfl
theorem dksX2_here_2 : cX2_here.data.toList.drop 47 = dktX2_here_2 := dk_seg dksX2_here_1 24 rfl rfl
theorem dX2_here_0 : decode cX2_here 0 = .ok (.aload_n 0, 1) := dk_42 (dk_at dksX2_here_0 0 rfl rfl)
theorem dX2_here_1 : decode cX2_here 1 = .ok (.aload_n 0, 1) := dk_42 (dk_at dksX2_here_0 1 rfl rfl)
theorem dX2_here_2 : decode cX2_here 2 = .ok (.getfield 36, 3) := dk_180 0 36 (dk_at dksX2_here_0 2 rfl rfl)
theorem dX2_here_5 : decode cX2_here 5 = .ok (.invokevirtual 39, 3) := dk_182 0 39 (dk_at dksX2_here_0 5 rfl rfl)
theorem dX2_here_8 : decode cX2_here 8 = .ok (.bipush 32, 2) := dk_16 32 (dk_at dksX2_here_0 8 rfl rfl)
theorem dX2_here_10 : decode cX2_here 10 = .ok (.if_icmp .eq 16, 3) := dk_159 0 16 (dk_at dksX2_here_0 10 rfl rfl)
theorem dX2_here_13 : decode cX2_here 13 = .ok (.aload_n 0, 1) := dk_42 (dk_at dksX2_here_0 13 rfl rfl)
theorem dX2_here_14 : decode cX2_here 14 = .ok (.aload_n 0, 1) := dk_42 (dk_at dksX2_here_0 14 rfl rfl)
theorem dX2_here_15 : decode cX2_here 15 = .ok (.getfield 36, 3) := dk_180 0 36 (dk_at dksX2_here_0 15 rfl rfl)
theorem dX2_here_18 : decode cX2_here 18 = .ok (.invokevirtual 39, 3) := dk_182 0 39 (dk_at dksX2_here_0 18 rfl rfl)
theorem dX2_here_21 : decode cX2_here 21 = .ok (.bipush 10, 2) := dk_16 10 (dk_at dksX2_here_0 21 rfl rfl)
theorem dX2_here_23 : decode cX2_here 23 = .ok (.if_icmp .ne 16, 3) := dk_160 0 16 (dk_at dksX2_here_1 0 rfl rfl)
theorem dX2_here_26 : decode cX2_here 26 = .ok (.aload_n 0, 1) := dk_42 (dk_at dksX2_here_1 3 rfl rfl)
theorem dX2_here_27 : decode cX2_here 27 = .ok (.dup, 1) := dk_89 (dk_at dksX2_here_1 4 rfl rfl)
theorem dX2_here_28 : decode cX2_here 28 = .ok (.getfield 36, 3) := dk_180 0 36 (dk_at dksX2_here_1 5 rfl rfl)
theorem dX2_here_31 : decode cX2_here 31 = .ok (.iconst 1, 1) := dk_4 (dk_at dksX2_here_1 8 rfl rfl)
theorem dX2_here_32 : decode cX2_here 32 = .ok (.iadd, 1) := dk_96 (dk_at dksX2_here_1 9 rfl rfl)
theorem dX2_here_33 : decode cX2_here 33 = .ok (.putfield 36, 3) := dk_181 0 36 (dk_at dksX2_here_1 10 rfl rfl)
theorem dX2_here_36 : decode cX2_here 36 = .ok (.goto (-36), 3) := dk_167 255 220 (dk_at dksX2_here_1 13 rfl rfl)
theorem dX2_here_39 : decode cX2_here 39 = .ok (.aload_n 0, 1) := dk_42 (dk_at dksX2_here_1 16 rfl rfl)
theorem dX2_here_40 : decode cX2_here 40 = .ok (.aload_n 0, 1) := dk_42 (dk_at dksX2_here_1 17 rfl rfl)
theorem dX2_here_41 : decode cX2_here 41 = .ok (.getfield 36, 3) := dk_180 0 36 (dk_at dksX2_here_1 18 rfl rfl)
theorem dX2_here_44 : decode cX2_here 44 = .ok (.invokevirtual 39, 3) := dk_182 0 39 (dk_at dksX2_here_1 21 rfl rfl)
theorem dX2_here_47 : decode cX2_here 47 = .ok (.ireturn, 1) := dk_172 (dk_at dksX2_here_2 0 rfl rfl)
abbrev cX2_byteAt : ByteArray := prog_14_method_3_code
def yX2_byteAt : MethodName := ⟨RX2, "byteAt", "(I)I"⟩
def dkwX2_byteAt_1 : List UInt8 := [126, 167, 0, 4, 2, 172]
abbrev dktX2_byteAt_1 : List UInt8 := dkwX2_byteAt_1 ++ []
def dkwX2_byteAt_0 : List UInt8 := [27, 155, 0, 27, 27, 42, 180, 0, 29, 162, 0, 19, 42, 180, 0, 3, 180, 0, 32, 27, 51, 17, 0, 255]
abbrev dktX2_byteAt_0 : List UInt8 := dkwX2_byteAt_0 ++ dktX2_byteAt_1
theorem dksX2_byteAt_0 : cX2_byteAt.data.toList.drop 0 = dktX2_byteAt_0 := by decide +kernel
theorem dksX2_byteAt_1 : cX2_byteAt.data.toList.drop 24 = dktX2_byteAt_1 := dk_seg dksX2_byteAt_0 24 rfl rfl
theorem dX2_byteAt_0 : decode cX2_byteAt 0 = .ok (.iload_n 1, 1) := dk_27 (dk_at dksX2_byteAt_0 0 rfl rfl)
theorem dX2_byteAt_1 : decode cX2_byteAt 1 = .ok (.ifCond .lt 27, 3) := dk_155 0 27 (dk_at dksX2_byteAt_0 1 rfl rfl)
theorem dX2_byteAt_4 : decode cX2_byteAt 4 = .ok (.iload_n 1, 1) := dk_27 (dk_at dksX2_byteAt_0 4 rfl rfl)
theorem dX2_byteAt_5 : decode cX2_byteAt 5 = .ok (.aload_n 0, 1) := dk_42 (dk_at dksX2_byteAt_0 5 rfl rfl)
theorem dX2_byteAt_6 : decode cX2_byteAt 6 = .ok (.getfield 29, 3) := dk_180 0 29 (dk_at dksX2_byteAt_0 6 rfl rfl)
theorem dX2_byteAt_9 : decode cX2_byteAt 9 = .ok (.if_icmp .ge 19, 3) := dk_162 0 19 (dk_at dksX2_byteAt_0 9 rfl rfl)
theorem dX2_byteAt_12 : decode cX2_byteAt 12 = .ok (.aload_n 0, 1) := dk_42 (dk_at dksX2_byteAt_0 12 rfl rfl)
theorem dX2_byteAt_13 : decode cX2_byteAt 13 = .ok (.getfield 3, 3) := dk_180 0 3 (dk_at dksX2_byteAt_0 13 rfl rfl)
theorem dX2_byteAt_16 : decode cX2_byteAt 16 = .ok (.getfield 32, 3) := dk_180 0 32 (dk_at dksX2_byteAt_0 16 rfl rfl)
theorem dX2_byteAt_19 : decode cX2_byteAt 19 = .ok (.iload_n 1, 1) := dk_27 (dk_at dksX2_byteAt_0 19 rfl rfl)
theorem dX2_byteAt_20 : decode cX2_byteAt 20 = .ok (.baload, 1) := dk_51 (dk_at dksX2_byteAt_0 20 rfl rfl)
theorem dX2_byteAt_21 : decode cX2_byteAt 21 = .ok (.sipush 255, 3) := dk_17 0 255 (dk_at dksX2_byteAt_0 21 rfl rfl)
theorem dX2_byteAt_24 : decode cX2_byteAt 24 = .ok (.iand, 1) := dk_126 (dk_at dksX2_byteAt_1 0 rfl rfl)
theorem dX2_byteAt_25 : decode cX2_byteAt 25 = .ok (.goto 4, 3) := dk_167 0 4 (dk_at dksX2_byteAt_1 1 rfl rfl)
theorem dX2_byteAt_28 : decode cX2_byteAt 28 = .ok (.iconst (-1), 1) := dk_2 (dk_at dksX2_byteAt_1 4 rfl rfl)
theorem dX2_byteAt_29 : decode cX2_byteAt 29 = .ok (.ireturn, 1) := dk_172 (dk_at dksX2_byteAt_1 5 rfl rfl)
abbrev cX2_wrong : ByteArray := prog_14_method_2_code
def yX2_wrong : MethodName := ⟨RX2, "wrong", "(II)LBentRiver$Fault;"⟩
def dkwX2_wrong_0 : List UInt8 := [42, 180, 0, 18, 27, 181, 0, 22, 42, 180, 0, 18, 28, 181, 0, 26, 42, 180, 0, 18, 176]
abbrev dktX2_wrong_0 : List UInt8 := dkwX2_wrong_0 ++ []
theorem dksX2_wrong_0 : cX2_wrong.data.toList.drop 0 = dktX2_wrong_0 := by decide +kernel
theorem dX2_wrong_0 : decode cX2_wrong 0 = .ok (.aload_n 0, 1) := dk_42 (dk_at dksX2_wrong_0 0 rfl rfl)
theorem dX2_wrong_1 : decode cX2_wrong 1 = .ok (.getfield 18, 3) := dk_180 0 18 (dk_at dksX2_wrong_0 1 rfl rfl)
theorem dX2_wrong_4 : decode cX2_wrong 4 = .ok (.iload_n 1, 1) := dk_27 (dk_at dksX2_wrong_0 4 rfl rfl)
theorem dX2_wrong_5 : decode cX2_wrong 5 = .ok (.putfield 22, 3) := dk_181 0 22 (dk_at dksX2_wrong_0 5 rfl rfl)
theorem dX2_wrong_8 : decode cX2_wrong 8 = .ok (.aload_n 0, 1) := dk_42 (dk_at dksX2_wrong_0 8 rfl rfl)
theorem dX2_wrong_9 : decode cX2_wrong 9 = .ok (.getfield 18, 3) := dk_180 0 18 (dk_at dksX2_wrong_0 9 rfl rfl)
theorem dX2_wrong_12 : decode cX2_wrong 12 = .ok (.iload_n 2, 1) := dk_28 (dk_at dksX2_wrong_0 12 rfl rfl)
theorem dX2_wrong_13 : decode cX2_wrong 13 = .ok (.putfield 26, 3) := dk_181 0 26 (dk_at dksX2_wrong_0 13 rfl rfl)
theorem dX2_wrong_16 : decode cX2_wrong 16 = .ok (.aload_n 0, 1) := dk_42 (dk_at dksX2_wrong_0 16 rfl rfl)
theorem dX2_wrong_17 : decode cX2_wrong 17 = .ok (.getfield 18, 3) := dk_180 0 18 (dk_at dksX2_wrong_0 17 rfl rfl)
theorem dX2_wrong_20 : decode cX2_wrong 20 = .ok (.areturn, 1) := dk_176 (dk_at dksX2_wrong_0 20 rfl rfl)
abbrev cX2_parted : ByteArray := prog_14_method_6_code
def yX2_parted : MethodName := ⟨RX2, "parted", "()V"⟩
def dkwX2_parted_1 : List UInt8 := [182, 0, 39, 184, 0, 55, 153, 0, 13, 42, 4, 42, 180, 0, 36, 182, 0, 47, 191, 177]
abbrev dktX2_parted_1 : List UInt8 := dkwX2_parted_1 ++ []
def dkwX2_parted_0 : List UInt8 := [42, 42, 180, 0, 36, 4, 100, 182, 0, 39, 184, 0, 51, 154, 0, 19, 42, 42, 180, 0, 36, 4, 100]
abbrev dktX2_parted_0 : List UInt8 := dkwX2_parted_0 ++ dktX2_parted_1
theorem dksX2_parted_0 : cX2_parted.data.toList.drop 0 = dktX2_parted_0 := by decide +kernel
theorem dksX2_parted_1 : cX2_parted.data.toList.drop 23 = dktX2_parted_1 := dk_seg dksX2_parted_0 23 rfl rfl
theorem dX2_parted_0 : decode cX2_parted 0 = .ok (.aload_n 0, 1) := dk_42 (dk_at dksX2_parted_0 0 rfl rfl)
theorem dX2_parted_1 : decode cX2_parted 1 = .ok (.aload_n 0, 1) := dk_42 (dk_at dksX2_parted_0 1 rfl rfl)
theorem dX2_parted_2 : decode cX2_parted 2 = .ok (.getfield 36, 3) := dk_180 0 36 (dk_at dksX2_parted_0 2 rfl rfl)
theorem dX2_parted_5 : decode cX2_parted 5 = .ok (.iconst 1, 1) := dk_4 (dk_at dksX2_parted_0 5 rfl rfl)
theorem dX2_parted_6 : decode cX2_parted 6 = .ok (.isub, 1) := dk_100 (dk_at dksX2_parted_0 6 rfl rfl)
theorem dX2_parted_7 : decode cX2_parted 7 = .ok (.invokevirtual 39, 3) := dk_182 0 39 (dk_at dksX2_parted_0 7 rfl rfl)
theorem dX2_parted_10 : decode cX2_parted 10 = .ok (.invokestatic 51, 3) := dk_184 0 51 (dk_at dksX2_parted_0 10 rfl rfl)
theorem dX2_parted_13 : decode cX2_parted 13 = .ok (.ifCond .ne 19, 3) := dk_154 0 19 (dk_at dksX2_parted_0 13 rfl rfl)
theorem dX2_parted_16 : decode cX2_parted 16 = .ok (.aload_n 0, 1) := dk_42 (dk_at dksX2_parted_0 16 rfl rfl)
theorem dX2_parted_17 : decode cX2_parted 17 = .ok (.aload_n 0, 1) := dk_42 (dk_at dksX2_parted_0 17 rfl rfl)
theorem dX2_parted_18 : decode cX2_parted 18 = .ok (.getfield 36, 3) := dk_180 0 36 (dk_at dksX2_parted_0 18 rfl rfl)
theorem dX2_parted_21 : decode cX2_parted 21 = .ok (.iconst 1, 1) := dk_4 (dk_at dksX2_parted_0 21 rfl rfl)
theorem dX2_parted_22 : decode cX2_parted 22 = .ok (.isub, 1) := dk_100 (dk_at dksX2_parted_0 22 rfl rfl)
theorem dX2_parted_23 : decode cX2_parted 23 = .ok (.invokevirtual 39, 3) := dk_182 0 39 (dk_at dksX2_parted_1 0 rfl rfl)
theorem dX2_parted_26 : decode cX2_parted 26 = .ok (.invokestatic 55, 3) := dk_184 0 55 (dk_at dksX2_parted_1 3 rfl rfl)
theorem dX2_parted_29 : decode cX2_parted 29 = .ok (.ifCond .eq 13, 3) := dk_153 0 13 (dk_at dksX2_parted_1 6 rfl rfl)
theorem dX2_parted_32 : decode cX2_parted 32 = .ok (.aload_n 0, 1) := dk_42 (dk_at dksX2_parted_1 9 rfl rfl)
theorem dX2_parted_33 : decode cX2_parted 33 = .ok (.iconst 1, 1) := dk_4 (dk_at dksX2_parted_1 10 rfl rfl)
theorem dX2_parted_34 : decode cX2_parted 34 = .ok (.aload_n 0, 1) := dk_42 (dk_at dksX2_parted_1 11 rfl rfl)
theorem dX2_parted_35 : decode cX2_parted 35 = .ok (.getfield 36, 3) := dk_180 0 36 (dk_at dksX2_parted_1 12 rfl rfl)
theorem dX2_parted_38 : decode cX2_parted 38 = .ok (.invokevirtual 47, 3) := dk_182 0 47 (dk_at dksX2_parted_1 15 rfl rfl)
theorem dX2_parted_41 : decode cX2_parted 41 = .ok (.athrow, 1) := dk_191 (dk_at dksX2_parted_1 18 rfl rfl)
theorem dX2_parted_42 : decode cX2_parted 42 = .ok (.return_, 1) := dk_177 (dk_at dksX2_parted_1 19 rfl rfl)
abbrev cX2_number : ByteArray := prog_14_method_11_code
def yX2_number : MethodName := ⟨RX2, "number", "(II)I"⟩
def dkwX2_number_5 : List UInt8 := [191, 29, 172]
abbrev dktX2_number_5 : List UInt8 := dkwX2_number_5 ++ []
def dkwX2_number_4 : List UInt8 := [181, 0, 36, 167, 255, 192, 29, 27, 28, 184, 0, 89, 154, 0, 13, 42, 5, 42, 180, 0, 61, 182, 0, 47]
abbrev dktX2_number_4 : List UInt8 := dkwX2_number_4 ++ dktX2_number_5
def dkwX2_number_3 : List UInt8 := [16, 10, 29, 104, 42, 42, 180, 0, 36, 182, 0, 39, 96, 16, 48, 100, 62, 42, 89, 180, 0, 36, 4, 96]
abbrev dktX2_number_3 : List UInt8 := dkwX2_number_3 ++ dktX2_number_4
def dkwX2_number_2 : List UInt8 := [42, 180, 0, 36, 42, 180, 0, 61, 100, 7, 160, 0, 13, 42, 4, 42, 180, 0, 36, 182, 0, 47, 191]
abbrev dktX2_number_2 : List UInt8 := dkwX2_number_2 ++ dktX2_number_3
def dkwX2_number_1 : List UInt8 := [42, 42, 180, 0, 36, 181, 0, 61, 3, 62, 42, 42, 180, 0, 36, 182, 0, 39, 184, 0, 55, 153, 0, 56]
abbrev dktX2_number_1 : List UInt8 := dkwX2_number_1 ++ dktX2_number_2
def dkwX2_number_0 : List UInt8 := [42, 182, 0, 43, 184, 0, 55, 154, 0, 13, 42, 4, 42, 180, 0, 36, 182, 0, 47, 191, 42, 182, 0, 58]
abbrev dktX2_number_0 : List UInt8 := dkwX2_number_0 ++ dktX2_number_1
theorem dksX2_number_0 : cX2_number.data.toList.drop 0 = dktX2_number_0 := by decide +kernel
theorem dksX2_number_1 : cX2_number.data.toList.drop 24 = dktX2_number_1 := dk_seg dksX2_number_0 24 rfl rfl
theorem dksX2_number_2 : cX2_number.data.toList.drop 48 = dktX2_number_2 := dk_seg dksX2_number_1 24 rfl rfl
theorem dksX2_number_3 : cX2_number.data.toList.drop 71 = dktX2_number_3 := dk_seg dksX2_number_2 23 rfl rfl
theorem dksX2_number_4 : cX2_number.data.toList.drop 95 = dktX2_number_4 := dk_seg dksX2_number_3 24 rfl rfl
theorem dksX2_number_5 : cX2_number.data.toList.drop 119 = dktX2_number_5 := dk_seg dksX2_number_4 24 rfl rfl
theorem dX2_number_0 : decode cX2_number 0 = .ok (.aload_n 0, 1) := dk_42 (dk_at dksX2_number_0 0 rfl rfl)
theorem dX2_number_1 : decode cX2_number 1 = .ok (.invokevirtual 43, 3) := dk_182 0 43 (dk_at dksX2_number_0 1 rfl rfl)
theorem dX2_number_4 : decode cX2_number 4 = .ok (.invokestatic 55, 3) := dk_184 0 55 (dk_at dksX2_number_0 4 rfl rfl)
theorem dX2_number_7 : decode cX2_number 7 = .ok (.ifCond .ne 13, 3) := dk_154 0 13 (dk_at dksX2_number_0 7 rfl rfl)
theorem dX2_number_10 : decode cX2_number 10 = .ok (.aload_n 0, 1) := dk_42 (dk_at dksX2_number_0 10 rfl rfl)
theorem dX2_number_11 : decode cX2_number 11 = .ok (.iconst 1, 1) := dk_4 (dk_at dksX2_number_0 11 rfl rfl)
theorem dX2_number_12 : decode cX2_number 12 = .ok (.aload_n 0, 1) := dk_42 (dk_at dksX2_number_0 12 rfl rfl)
theorem dX2_number_13 : decode cX2_number 13 = .ok (.getfield 36, 3) := dk_180 0 36 (dk_at dksX2_number_0 13 rfl rfl)
theorem dX2_number_16 : decode cX2_number 16 = .ok (.invokevirtual 47, 3) := dk_182 0 47 (dk_at dksX2_number_0 16 rfl rfl)
theorem dX2_number_19 : decode cX2_number 19 = .ok (.athrow, 1) := dk_191 (dk_at dksX2_number_0 19 rfl rfl)
theorem dX2_number_20 : decode cX2_number 20 = .ok (.aload_n 0, 1) := dk_42 (dk_at dksX2_number_0 20 rfl rfl)
theorem dX2_number_21 : decode cX2_number 21 = .ok (.invokevirtual 58, 3) := dk_182 0 58 (dk_at dksX2_number_0 21 rfl rfl)
theorem dX2_number_24 : decode cX2_number 24 = .ok (.aload_n 0, 1) := dk_42 (dk_at dksX2_number_1 0 rfl rfl)
theorem dX2_number_25 : decode cX2_number 25 = .ok (.aload_n 0, 1) := dk_42 (dk_at dksX2_number_1 1 rfl rfl)
theorem dX2_number_26 : decode cX2_number 26 = .ok (.getfield 36, 3) := dk_180 0 36 (dk_at dksX2_number_1 2 rfl rfl)
theorem dX2_number_29 : decode cX2_number 29 = .ok (.putfield 61, 3) := dk_181 0 61 (dk_at dksX2_number_1 5 rfl rfl)
theorem dX2_number_32 : decode cX2_number 32 = .ok (.iconst 0, 1) := dk_3 (dk_at dksX2_number_1 8 rfl rfl)
theorem dX2_number_33 : decode cX2_number 33 = .ok (.istore_n 3, 1) := dk_62 (dk_at dksX2_number_1 9 rfl rfl)
theorem dX2_number_34 : decode cX2_number 34 = .ok (.aload_n 0, 1) := dk_42 (dk_at dksX2_number_1 10 rfl rfl)
theorem dX2_number_35 : decode cX2_number 35 = .ok (.aload_n 0, 1) := dk_42 (dk_at dksX2_number_1 11 rfl rfl)
theorem dX2_number_36 : decode cX2_number 36 = .ok (.getfield 36, 3) := dk_180 0 36 (dk_at dksX2_number_1 12 rfl rfl)
theorem dX2_number_39 : decode cX2_number 39 = .ok (.invokevirtual 39, 3) := dk_182 0 39 (dk_at dksX2_number_1 15 rfl rfl)
theorem dX2_number_42 : decode cX2_number 42 = .ok (.invokestatic 55, 3) := dk_184 0 55 (dk_at dksX2_number_1 18 rfl rfl)
theorem dX2_number_45 : decode cX2_number 45 = .ok (.ifCond .eq 56, 3) := dk_153 0 56 (dk_at dksX2_number_1 21 rfl rfl)
theorem dX2_number_48 : decode cX2_number 48 = .ok (.aload_n 0, 1) := dk_42 (dk_at dksX2_number_2 0 rfl rfl)
theorem dX2_number_49 : decode cX2_number 49 = .ok (.getfield 36, 3) := dk_180 0 36 (dk_at dksX2_number_2 1 rfl rfl)
theorem dX2_number_52 : decode cX2_number 52 = .ok (.aload_n 0, 1) := dk_42 (dk_at dksX2_number_2 4 rfl rfl)
theorem dX2_number_53 : decode cX2_number 53 = .ok (.getfield 61, 3) := dk_180 0 61 (dk_at dksX2_number_2 5 rfl rfl)
theorem dX2_number_56 : decode cX2_number 56 = .ok (.isub, 1) := dk_100 (dk_at dksX2_number_2 8 rfl rfl)
theorem dX2_number_57 : decode cX2_number 57 = .ok (.iconst 4, 1) := dk_7 (dk_at dksX2_number_2 9 rfl rfl)
theorem dX2_number_58 : decode cX2_number 58 = .ok (.if_icmp .ne 13, 3) := dk_160 0 13 (dk_at dksX2_number_2 10 rfl rfl)
theorem dX2_number_61 : decode cX2_number 61 = .ok (.aload_n 0, 1) := dk_42 (dk_at dksX2_number_2 13 rfl rfl)
theorem dX2_number_62 : decode cX2_number 62 = .ok (.iconst 1, 1) := dk_4 (dk_at dksX2_number_2 14 rfl rfl)
theorem dX2_number_63 : decode cX2_number 63 = .ok (.aload_n 0, 1) := dk_42 (dk_at dksX2_number_2 15 rfl rfl)
theorem dX2_number_64 : decode cX2_number 64 = .ok (.getfield 36, 3) := dk_180 0 36 (dk_at dksX2_number_2 16 rfl rfl)
theorem dX2_number_67 : decode cX2_number 67 = .ok (.invokevirtual 47, 3) := dk_182 0 47 (dk_at dksX2_number_2 19 rfl rfl)
theorem dX2_number_70 : decode cX2_number 70 = .ok (.athrow, 1) := dk_191 (dk_at dksX2_number_2 22 rfl rfl)
theorem dX2_number_71 : decode cX2_number 71 = .ok (.bipush 10, 2) := dk_16 10 (dk_at dksX2_number_3 0 rfl rfl)
theorem dX2_number_73 : decode cX2_number 73 = .ok (.iload_n 3, 1) := dk_29 (dk_at dksX2_number_3 2 rfl rfl)
theorem dX2_number_74 : decode cX2_number 74 = .ok (.imul, 1) := dk_104 (dk_at dksX2_number_3 3 rfl rfl)
theorem dX2_number_75 : decode cX2_number 75 = .ok (.aload_n 0, 1) := dk_42 (dk_at dksX2_number_3 4 rfl rfl)
theorem dX2_number_76 : decode cX2_number 76 = .ok (.aload_n 0, 1) := dk_42 (dk_at dksX2_number_3 5 rfl rfl)
theorem dX2_number_77 : decode cX2_number 77 = .ok (.getfield 36, 3) := dk_180 0 36 (dk_at dksX2_number_3 6 rfl rfl)
theorem dX2_number_80 : decode cX2_number 80 = .ok (.invokevirtual 39, 3) := dk_182 0 39 (dk_at dksX2_number_3 9 rfl rfl)
theorem dX2_number_83 : decode cX2_number 83 = .ok (.iadd, 1) := dk_96 (dk_at dksX2_number_3 12 rfl rfl)
theorem dX2_number_84 : decode cX2_number 84 = .ok (.bipush 48, 2) := dk_16 48 (dk_at dksX2_number_3 13 rfl rfl)
theorem dX2_number_86 : decode cX2_number 86 = .ok (.isub, 1) := dk_100 (dk_at dksX2_number_3 15 rfl rfl)
theorem dX2_number_87 : decode cX2_number 87 = .ok (.istore_n 3, 1) := dk_62 (dk_at dksX2_number_3 16 rfl rfl)
theorem dX2_number_88 : decode cX2_number 88 = .ok (.aload_n 0, 1) := dk_42 (dk_at dksX2_number_3 17 rfl rfl)
theorem dX2_number_89 : decode cX2_number 89 = .ok (.dup, 1) := dk_89 (dk_at dksX2_number_3 18 rfl rfl)
theorem dX2_number_90 : decode cX2_number 90 = .ok (.getfield 36, 3) := dk_180 0 36 (dk_at dksX2_number_3 19 rfl rfl)
theorem dX2_number_93 : decode cX2_number 93 = .ok (.iconst 1, 1) := dk_4 (dk_at dksX2_number_3 22 rfl rfl)
theorem dX2_number_94 : decode cX2_number 94 = .ok (.iadd, 1) := dk_96 (dk_at dksX2_number_3 23 rfl rfl)
theorem dX2_number_95 : decode cX2_number 95 = .ok (.putfield 36, 3) := dk_181 0 36 (dk_at dksX2_number_4 0 rfl rfl)
theorem dX2_number_98 : decode cX2_number 98 = .ok (.goto (-64), 3) := dk_167 255 192 (dk_at dksX2_number_4 3 rfl rfl)
theorem dX2_number_101 : decode cX2_number 101 = .ok (.iload_n 3, 1) := dk_29 (dk_at dksX2_number_4 6 rfl rfl)
theorem dX2_number_102 : decode cX2_number 102 = .ok (.iload_n 1, 1) := dk_27 (dk_at dksX2_number_4 7 rfl rfl)
theorem dX2_number_103 : decode cX2_number 103 = .ok (.iload_n 2, 1) := dk_28 (dk_at dksX2_number_4 8 rfl rfl)
theorem dX2_number_104 : decode cX2_number 104 = .ok (.invokestatic 89, 3) := dk_184 0 89 (dk_at dksX2_number_4 9 rfl rfl)
theorem dX2_number_107 : decode cX2_number 107 = .ok (.ifCond .ne 13, 3) := dk_154 0 13 (dk_at dksX2_number_4 12 rfl rfl)
theorem dX2_number_110 : decode cX2_number 110 = .ok (.aload_n 0, 1) := dk_42 (dk_at dksX2_number_4 15 rfl rfl)
theorem dX2_number_111 : decode cX2_number 111 = .ok (.iconst 2, 1) := dk_5 (dk_at dksX2_number_4 16 rfl rfl)
theorem dX2_number_112 : decode cX2_number 112 = .ok (.aload_n 0, 1) := dk_42 (dk_at dksX2_number_4 17 rfl rfl)
theorem dX2_number_113 : decode cX2_number 113 = .ok (.getfield 61, 3) := dk_180 0 61 (dk_at dksX2_number_4 18 rfl rfl)
theorem dX2_number_116 : decode cX2_number 116 = .ok (.invokevirtual 47, 3) := dk_182 0 47 (dk_at dksX2_number_4 21 rfl rfl)
theorem dX2_number_119 : decode cX2_number 119 = .ok (.athrow, 1) := dk_191 (dk_at dksX2_number_5 0 rfl rfl)
theorem dX2_number_120 : decode cX2_number 120 = .ok (.iload_n 3, 1) := dk_29 (dk_at dksX2_number_5 1 rfl rfl)
theorem dX2_number_121 : decode cX2_number 121 = .ok (.ireturn, 1) := dk_172 (dk_at dksX2_number_5 2 rfl rfl)
abbrev cX2_number_2 : ByteArray := prog_14_method_12_code
def yX2_number_2 : MethodName := ⟨RX2, "number", "(Ljava/lang/String;II)I"⟩
def dkwX2_number_2_0 : List UInt8 := [42, 43, 182, 0, 93, 42, 28, 29, 182, 0, 96, 172]
abbrev dktX2_number_2_0 : List UInt8 := dkwX2_number_2_0 ++ []
theorem dksX2_number_2_0 : cX2_number_2.data.toList.drop 0 = dktX2_number_2_0 := by decide +kernel
theorem dX2_number_2_0 : decode cX2_number_2 0 = .ok (.aload_n 0, 1) := dk_42 (dk_at dksX2_number_2_0 0 rfl rfl)
theorem dX2_number_2_1 : decode cX2_number_2 1 = .ok (.aload_n 1, 1) := dk_43 (dk_at dksX2_number_2_0 1 rfl rfl)
theorem dX2_number_2_2 : decode cX2_number_2 2 = .ok (.invokevirtual 93, 3) := dk_182 0 93 (dk_at dksX2_number_2_0 2 rfl rfl)
theorem dX2_number_2_5 : decode cX2_number_2 5 = .ok (.aload_n 0, 1) := dk_42 (dk_at dksX2_number_2_0 5 rfl rfl)
theorem dX2_number_2_6 : decode cX2_number_2 6 = .ok (.iload_n 2, 1) := dk_28 (dk_at dksX2_number_2_0 6 rfl rfl)
theorem dX2_number_2_7 : decode cX2_number_2 7 = .ok (.iload_n 3, 1) := dk_29 (dk_at dksX2_number_2_0 7 rfl rfl)
theorem dX2_number_2_8 : decode cX2_number_2 8 = .ok (.invokevirtual 96, 3) := dk_182 0 96 (dk_at dksX2_number_2_0 8 rfl rfl)
theorem dX2_number_2_11 : decode cX2_number_2 11 = .ok (.ireturn, 1) := dk_172 (dk_at dksX2_number_2_0 11 rfl rfl)
abbrev cX2_must : ByteArray := prog_14_method_5_code
def yX2_must : MethodName := ⟨RX2, "must", "(I)V"⟩
def dkwX2_must_1 : List UInt8 := [96, 181, 0, 36, 177]
abbrev dktX2_must_1 : List UInt8 := dkwX2_must_1 ++ []
def dkwX2_must_0 : List UInt8 := [42, 182, 0, 43, 27, 159, 0, 13, 42, 4, 42, 180, 0, 36, 182, 0, 47, 191, 42, 89, 180, 0, 36, 4]
abbrev dktX2_must_0 : List UInt8 := dkwX2_must_0 ++ dktX2_must_1
theorem dksX2_must_0 : cX2_must.data.toList.drop 0 = dktX2_must_0 := by decide +kernel
theorem dksX2_must_1 : cX2_must.data.toList.drop 24 = dktX2_must_1 := dk_seg dksX2_must_0 24 rfl rfl
theorem dX2_must_0 : decode cX2_must 0 = .ok (.aload_n 0, 1) := dk_42 (dk_at dksX2_must_0 0 rfl rfl)
theorem dX2_must_1 : decode cX2_must 1 = .ok (.invokevirtual 43, 3) := dk_182 0 43 (dk_at dksX2_must_0 1 rfl rfl)
theorem dX2_must_4 : decode cX2_must 4 = .ok (.iload_n 1, 1) := dk_27 (dk_at dksX2_must_0 4 rfl rfl)
theorem dX2_must_5 : decode cX2_must 5 = .ok (.if_icmp .eq 13, 3) := dk_159 0 13 (dk_at dksX2_must_0 5 rfl rfl)
theorem dX2_must_8 : decode cX2_must 8 = .ok (.aload_n 0, 1) := dk_42 (dk_at dksX2_must_0 8 rfl rfl)
theorem dX2_must_9 : decode cX2_must 9 = .ok (.iconst 1, 1) := dk_4 (dk_at dksX2_must_0 9 rfl rfl)
theorem dX2_must_10 : decode cX2_must 10 = .ok (.aload_n 0, 1) := dk_42 (dk_at dksX2_must_0 10 rfl rfl)
theorem dX2_must_11 : decode cX2_must 11 = .ok (.getfield 36, 3) := dk_180 0 36 (dk_at dksX2_must_0 11 rfl rfl)
theorem dX2_must_14 : decode cX2_must 14 = .ok (.invokevirtual 47, 3) := dk_182 0 47 (dk_at dksX2_must_0 14 rfl rfl)
theorem dX2_must_17 : decode cX2_must 17 = .ok (.athrow, 1) := dk_191 (dk_at dksX2_must_0 17 rfl rfl)
theorem dX2_must_18 : decode cX2_must 18 = .ok (.aload_n 0, 1) := dk_42 (dk_at dksX2_must_0 18 rfl rfl)
theorem dX2_must_19 : decode cX2_must 19 = .ok (.dup, 1) := dk_89 (dk_at dksX2_must_0 19 rfl rfl)
theorem dX2_must_20 : decode cX2_must 20 = .ok (.getfield 36, 3) := dk_180 0 36 (dk_at dksX2_must_0 20 rfl rfl)
theorem dX2_must_23 : decode cX2_must 23 = .ok (.iconst 1, 1) := dk_4 (dk_at dksX2_must_0 23 rfl rfl)
theorem dX2_must_24 : decode cX2_must 24 = .ok (.iadd, 1) := dk_96 (dk_at dksX2_must_1 0 rfl rfl)
theorem dX2_must_25 : decode cX2_must 25 = .ok (.putfield 36, 3) := dk_181 0 36 (dk_at dksX2_must_1 1 rfl rfl)
theorem dX2_must_28 : decode cX2_must 28 = .ok (.return_, 1) := dk_177 (dk_at dksX2_must_1 4 rfl rfl)
abbrev cX2_most : ByteArray := prog_14_method_13_code
def yX2_most : MethodName := ⟨RX2, "most", "(ZI)V"⟩
def dkwX2_most_0 : List UInt8 := [27, 153, 0, 10, 42, 8, 28, 182, 0, 47, 191, 177]
abbrev dktX2_most_0 : List UInt8 := dkwX2_most_0 ++ []
theorem dksX2_most_0 : cX2_most.data.toList.drop 0 = dktX2_most_0 := by decide +kernel
theorem dX2_most_0 : decode cX2_most 0 = .ok (.iload_n 1, 1) := dk_27 (dk_at dksX2_most_0 0 rfl rfl)
theorem dX2_most_1 : decode cX2_most 1 = .ok (.ifCond .eq 10, 3) := dk_153 0 10 (dk_at dksX2_most_0 1 rfl rfl)
theorem dX2_most_4 : decode cX2_most 4 = .ok (.aload_n 0, 1) := dk_42 (dk_at dksX2_most_0 4 rfl rfl)
theorem dX2_most_5 : decode cX2_most 5 = .ok (.iconst 5, 1) := dk_8 (dk_at dksX2_most_0 5 rfl rfl)
theorem dX2_most_6 : decode cX2_most 6 = .ok (.iload_n 2, 1) := dk_28 (dk_at dksX2_most_0 6 rfl rfl)
theorem dX2_most_7 : decode cX2_most 7 = .ok (.invokevirtual 47, 3) := dk_182 0 47 (dk_at dksX2_most_0 7 rfl rfl)
theorem dX2_most_10 : decode cX2_most 10 = .ok (.athrow, 1) := dk_191 (dk_at dksX2_most_0 10 rfl rfl)
theorem dX2_most_11 : decode cX2_most 11 = .ok (.return_, 1) := dk_177 (dk_at dksX2_most_0 11 rfl rfl)
abbrev cX2_laid : ByteArray := prog_14_method_17_code
def yX2_laid : MethodName := ⟨RX2, "laid", "(Ljava/lang/String;I)Z"⟩
def dkwX2_laid_12 : List UInt8 := [182, 0, 134, 42, 182, 0, 180, 4, 172, 3, 172]
abbrev dktX2_laid_12 : List UInt8 := dkwX2_laid_12 ++ []
def dkwX2_laid_11 : List UInt8 := [42, 180, 0, 100, 180, 0, 172, 185, 0, 176, 1, 0, 8, 160, 0, 7, 4, 167, 0, 4, 3, 28]
abbrev dktX2_laid_11 : List UInt8 := dkwX2_laid_11 ++ dktX2_laid_12
def dkwX2_laid_10 : List UInt8 := [182, 0, 47, 191, 42, 180, 0, 100, 180, 0, 169, 21, 8, 50, 21, 9, 92, 46, 4, 96, 79, 4, 172, 42]
abbrev dktX2_laid_10 : List UInt8 := dkwX2_laid_10 ++ dktX2_laid_11
def dkwX2_laid_9 : List UInt8 := [180, 0, 100, 180, 0, 169, 21, 8, 50, 21, 9, 46, 16, 9, 160, 0, 13, 42, 5, 42, 180, 0, 61]
abbrev dktX2_laid_9 : List UInt8 := dkwX2_laid_9 ++ dktX2_laid_10
def dkwX2_laid_8 : List UInt8 := [3, 16, 9, 182, 0, 96, 79, 4, 172, 42, 182, 0, 157, 54, 8, 42, 182, 0, 163, 54, 9, 42]
abbrev dktX2_laid_8 : List UInt8 := dkwX2_laid_8 ++ dktX2_laid_9
def dkwX2_laid_7 : List UInt8 := [182, 0, 157, 54, 6, 42, 182, 0, 163, 54, 7, 42, 180, 0, 100, 180, 0, 166, 21, 6, 50, 21, 7, 42]
abbrev dktX2_laid_7 : List UInt8 := dkwX2_laid_7 ++ dktX2_laid_8
def dkwX2_laid_6 : List UInt8 := [42, 182, 0, 157, 54, 5, 42, 180, 0, 100, 180, 0, 160, 21, 5, 42, 182, 0, 163, 79, 4, 172, 42]
abbrev dktX2_laid_6 : List UInt8 := dkwX2_laid_6 ++ dktX2_laid_7
def dkwX2_laid_5 : List UInt8 := [170, 0, 0, 0, 176, 0, 0, 0, 0, 0, 0, 0, 3, 0, 0, 0, 29, 0, 0, 0, 51, 0, 0, 0, 85, 0, 0, 0, 144]
abbrev dktX2_laid_5 : List UInt8 := dkwX2_laid_5 ++ dktX2_laid_6
def dkwX2_laid_4 : List UInt8 := [182, 0, 74, 153, 0, 6, 6, 54, 4, 21, 4]
abbrev dktX2_laid_4 : List UInt8 := dkwX2_laid_4 ++ dktX2_laid_5
def dkwX2_laid_3 : List UInt8 := [4, 54, 4, 167, 0, 30, 45, 18, 153, 182, 0, 74, 153, 0, 21, 5, 54, 4, 167, 0, 15, 45, 18, 155]
abbrev dktX2_laid_3 : List UInt8 := dkwX2_laid_3 ++ dktX2_laid_4
def dkwX2_laid_2 : List UInt8 := [45, 18, 149, 182, 0, 74, 153, 0, 51, 3, 54, 4, 167, 0, 45, 45, 18, 151, 182, 0, 74, 153, 0, 36]
abbrev dktX2_laid_2 : List UInt8 := dkwX2_laid_2 ++ dktX2_laid_3
def dkwX2_laid_1 : List UInt8 := [171, 0, 0, 0, 0, 0, 100, 0, 0, 0, 4, 209, 11, 17, 58, 0, 0, 0, 73, 0, 50, 198, 245, 0, 0, 0, 88, 0, 53, 151, 72, 0, 0, 0, 43, 0, 53, 244, 127, 0, 0, 0, 58]
abbrev dktX2_laid_1 : List UInt8 := dkwX2_laid_1 ++ dktX2_laid_2
def dkwX2_laid_0 : List UInt8 := [43, 78, 2, 54, 4, 45, 182, 0, 146]
abbrev dktX2_laid_0 : List UInt8 := dkwX2_laid_0 ++ dktX2_laid_1
theorem dksX2_laid_0 : cX2_laid.data.toList.drop 0 = dktX2_laid_0 := by decide +kernel
theorem dksX2_laid_1 : cX2_laid.data.toList.drop 9 = dktX2_laid_1 := dk_seg dksX2_laid_0 9 rfl rfl
theorem dksX2_laid_2 : cX2_laid.data.toList.drop 52 = dktX2_laid_2 := dk_seg dksX2_laid_1 43 rfl rfl
theorem dksX2_laid_3 : cX2_laid.data.toList.drop 76 = dktX2_laid_3 := dk_seg dksX2_laid_2 24 rfl rfl
theorem dksX2_laid_4 : cX2_laid.data.toList.drop 100 = dktX2_laid_4 := dk_seg dksX2_laid_3 24 rfl rfl
theorem dksX2_laid_5 : cX2_laid.data.toList.drop 111 = dktX2_laid_5 := dk_seg dksX2_laid_4 11 rfl rfl
theorem dksX2_laid_6 : cX2_laid.data.toList.drop 140 = dktX2_laid_6 := dk_seg dksX2_laid_5 29 rfl rfl
theorem dksX2_laid_7 : cX2_laid.data.toList.drop 163 = dktX2_laid_7 := dk_seg dksX2_laid_6 23 rfl rfl
theorem dksX2_laid_8 : cX2_laid.data.toList.drop 187 = dktX2_laid_8 := dk_seg dksX2_laid_7 24 rfl rfl
theorem dksX2_laid_9 : cX2_laid.data.toList.drop 209 = dktX2_laid_9 := dk_seg dksX2_laid_8 22 rfl rfl
theorem dksX2_laid_10 : cX2_laid.data.toList.drop 232 = dktX2_laid_10 := dk_seg dksX2_laid_9 23 rfl rfl
theorem dksX2_laid_11 : cX2_laid.data.toList.drop 256 = dktX2_laid_11 := dk_seg dksX2_laid_10 24 rfl rfl
theorem dksX2_laid_12 : cX2_laid.data.toList.drop 278 = dktX2_laid_12 := dk_seg dksX2_laid_11 22 rfl rfl
theorem dX2_laid_0 : decode cX2_laid 0 = .ok (.aload_n 1, 1) := dk_43 (dk_at dksX2_laid_0 0 rfl rfl)
theorem dX2_laid_1 : decode cX2_laid 1 = .ok (.astore_n 3, 1) := dk_78 (dk_at dksX2_laid_0 1 rfl rfl)
theorem dX2_laid_2 : decode cX2_laid 2 = .ok (.iconst (-1), 1) := dk_2 (dk_at dksX2_laid_0 2 rfl rfl)
theorem dX2_laid_3 : decode cX2_laid 3 = .ok (.istore 4, 2) := dk_54 4 (dk_at dksX2_laid_0 3 rfl rfl)
theorem dX2_laid_5 : decode cX2_laid 5 = .ok (.aload_n 3, 1) := dk_45 (dk_at dksX2_laid_0 5 rfl rfl)
theorem dX2_laid_6 : decode cX2_laid 6 = .ok (.invokevirtual 146, 3) := dk_182 0 146 (dk_at dksX2_laid_0 6 rfl rfl)
theorem dX2_laid_9 : decode cX2_laid 9 = .ok (.lookupswitch 100 #[(-787803846, 73), (3327733, 88), (3512136, 43), (3535999, 58)], 43) := by decide +kernel
theorem dX2_laid_52 : decode cX2_laid 52 = .ok (.aload_n 3, 1) := dk_45 (dk_at dksX2_laid_2 0 rfl rfl)
theorem dX2_laid_53 : decode cX2_laid 53 = .ok (.ldc 149, 2) := dk_18 149 (dk_at dksX2_laid_2 1 rfl rfl)
theorem dX2_laid_55 : decode cX2_laid 55 = .ok (.invokevirtual 74, 3) := dk_182 0 74 (dk_at dksX2_laid_2 3 rfl rfl)
theorem dX2_laid_58 : decode cX2_laid 58 = .ok (.ifCond .eq 51, 3) := dk_153 0 51 (dk_at dksX2_laid_2 6 rfl rfl)
theorem dX2_laid_61 : decode cX2_laid 61 = .ok (.iconst 0, 1) := dk_3 (dk_at dksX2_laid_2 9 rfl rfl)
theorem dX2_laid_62 : decode cX2_laid 62 = .ok (.istore 4, 2) := dk_54 4 (dk_at dksX2_laid_2 10 rfl rfl)
theorem dX2_laid_64 : decode cX2_laid 64 = .ok (.goto 45, 3) := dk_167 0 45 (dk_at dksX2_laid_2 12 rfl rfl)
theorem dX2_laid_67 : decode cX2_laid 67 = .ok (.aload_n 3, 1) := dk_45 (dk_at dksX2_laid_2 15 rfl rfl)
theorem dX2_laid_68 : decode cX2_laid 68 = .ok (.ldc 151, 2) := dk_18 151 (dk_at dksX2_laid_2 16 rfl rfl)
theorem dX2_laid_70 : decode cX2_laid 70 = .ok (.invokevirtual 74, 3) := dk_182 0 74 (dk_at dksX2_laid_2 18 rfl rfl)
theorem dX2_laid_73 : decode cX2_laid 73 = .ok (.ifCond .eq 36, 3) := dk_153 0 36 (dk_at dksX2_laid_2 21 rfl rfl)
theorem dX2_laid_76 : decode cX2_laid 76 = .ok (.iconst 1, 1) := dk_4 (dk_at dksX2_laid_3 0 rfl rfl)
theorem dX2_laid_77 : decode cX2_laid 77 = .ok (.istore 4, 2) := dk_54 4 (dk_at dksX2_laid_3 1 rfl rfl)
theorem dX2_laid_79 : decode cX2_laid 79 = .ok (.goto 30, 3) := dk_167 0 30 (dk_at dksX2_laid_3 3 rfl rfl)
theorem dX2_laid_82 : decode cX2_laid 82 = .ok (.aload_n 3, 1) := dk_45 (dk_at dksX2_laid_3 6 rfl rfl)
theorem dX2_laid_83 : decode cX2_laid 83 = .ok (.ldc 153, 2) := dk_18 153 (dk_at dksX2_laid_3 7 rfl rfl)
theorem dX2_laid_85 : decode cX2_laid 85 = .ok (.invokevirtual 74, 3) := dk_182 0 74 (dk_at dksX2_laid_3 9 rfl rfl)
theorem dX2_laid_88 : decode cX2_laid 88 = .ok (.ifCond .eq 21, 3) := dk_153 0 21 (dk_at dksX2_laid_3 12 rfl rfl)
theorem dX2_laid_91 : decode cX2_laid 91 = .ok (.iconst 2, 1) := dk_5 (dk_at dksX2_laid_3 15 rfl rfl)
theorem dX2_laid_92 : decode cX2_laid 92 = .ok (.istore 4, 2) := dk_54 4 (dk_at dksX2_laid_3 16 rfl rfl)
theorem dX2_laid_94 : decode cX2_laid 94 = .ok (.goto 15, 3) := dk_167 0 15 (dk_at dksX2_laid_3 18 rfl rfl)
theorem dX2_laid_97 : decode cX2_laid 97 = .ok (.aload_n 3, 1) := dk_45 (dk_at dksX2_laid_3 21 rfl rfl)
theorem dX2_laid_98 : decode cX2_laid 98 = .ok (.ldc 155, 2) := dk_18 155 (dk_at dksX2_laid_3 22 rfl rfl)
theorem dX2_laid_100 : decode cX2_laid 100 = .ok (.invokevirtual 74, 3) := dk_182 0 74 (dk_at dksX2_laid_4 0 rfl rfl)
theorem dX2_laid_103 : decode cX2_laid 103 = .ok (.ifCond .eq 6, 3) := dk_153 0 6 (dk_at dksX2_laid_4 3 rfl rfl)
theorem dX2_laid_106 : decode cX2_laid 106 = .ok (.iconst 3, 1) := dk_6 (dk_at dksX2_laid_4 6 rfl rfl)
theorem dX2_laid_107 : decode cX2_laid 107 = .ok (.istore 4, 2) := dk_54 4 (dk_at dksX2_laid_4 7 rfl rfl)
theorem dX2_laid_109 : decode cX2_laid 109 = .ok (.iload 4, 2) := dk_21 4 (dk_at dksX2_laid_4 9 rfl rfl)
theorem dX2_laid_111 : decode cX2_laid 111 = .ok (.tableswitch 176 0 3 #[29, 51, 85, 144], 29) := by decide +kernel
theorem dX2_laid_140 : decode cX2_laid 140 = .ok (.aload_n 0, 1) := dk_42 (dk_at dksX2_laid_6 0 rfl rfl)
theorem dX2_laid_141 : decode cX2_laid 141 = .ok (.invokevirtual 157, 3) := dk_182 0 157 (dk_at dksX2_laid_6 1 rfl rfl)
theorem dX2_laid_144 : decode cX2_laid 144 = .ok (.istore 5, 2) := dk_54 5 (dk_at dksX2_laid_6 4 rfl rfl)
theorem dX2_laid_146 : decode cX2_laid 146 = .ok (.aload_n 0, 1) := dk_42 (dk_at dksX2_laid_6 6 rfl rfl)
theorem dX2_laid_147 : decode cX2_laid 147 = .ok (.getfield 100, 3) := dk_180 0 100 (dk_at dksX2_laid_6 7 rfl rfl)
theorem dX2_laid_150 : decode cX2_laid 150 = .ok (.getfield 160, 3) := dk_180 0 160 (dk_at dksX2_laid_6 10 rfl rfl)
theorem dX2_laid_153 : decode cX2_laid 153 = .ok (.iload 5, 2) := dk_21 5 (dk_at dksX2_laid_6 13 rfl rfl)
theorem dX2_laid_155 : decode cX2_laid 155 = .ok (.aload_n 0, 1) := dk_42 (dk_at dksX2_laid_6 15 rfl rfl)
theorem dX2_laid_156 : decode cX2_laid 156 = .ok (.invokevirtual 163, 3) := dk_182 0 163 (dk_at dksX2_laid_6 16 rfl rfl)
theorem dX2_laid_159 : decode cX2_laid 159 = .ok (.iastore, 1) := dk_79 (dk_at dksX2_laid_6 19 rfl rfl)
theorem dX2_laid_160 : decode cX2_laid 160 = .ok (.iconst 1, 1) := dk_4 (dk_at dksX2_laid_6 20 rfl rfl)
theorem dX2_laid_161 : decode cX2_laid 161 = .ok (.ireturn, 1) := dk_172 (dk_at dksX2_laid_6 21 rfl rfl)
theorem dX2_laid_162 : decode cX2_laid 162 = .ok (.aload_n 0, 1) := dk_42 (dk_at dksX2_laid_6 22 rfl rfl)
theorem dX2_laid_163 : decode cX2_laid 163 = .ok (.invokevirtual 157, 3) := dk_182 0 157 (dk_at dksX2_laid_7 0 rfl rfl)
theorem dX2_laid_166 : decode cX2_laid 166 = .ok (.istore 6, 2) := dk_54 6 (dk_at dksX2_laid_7 3 rfl rfl)
theorem dX2_laid_168 : decode cX2_laid 168 = .ok (.aload_n 0, 1) := dk_42 (dk_at dksX2_laid_7 5 rfl rfl)
theorem dX2_laid_169 : decode cX2_laid 169 = .ok (.invokevirtual 163, 3) := dk_182 0 163 (dk_at dksX2_laid_7 6 rfl rfl)
theorem dX2_laid_172 : decode cX2_laid 172 = .ok (.istore 7, 2) := dk_54 7 (dk_at dksX2_laid_7 9 rfl rfl)
theorem dX2_laid_174 : decode cX2_laid 174 = .ok (.aload_n 0, 1) := dk_42 (dk_at dksX2_laid_7 11 rfl rfl)
theorem dX2_laid_175 : decode cX2_laid 175 = .ok (.getfield 100, 3) := dk_180 0 100 (dk_at dksX2_laid_7 12 rfl rfl)
theorem dX2_laid_178 : decode cX2_laid 178 = .ok (.getfield 166, 3) := dk_180 0 166 (dk_at dksX2_laid_7 15 rfl rfl)
theorem dX2_laid_181 : decode cX2_laid 181 = .ok (.iload 6, 2) := dk_21 6 (dk_at dksX2_laid_7 18 rfl rfl)
theorem dX2_laid_183 : decode cX2_laid 183 = .ok (.aaload, 1) := dk_50 (dk_at dksX2_laid_7 20 rfl rfl)
theorem dX2_laid_184 : decode cX2_laid 184 = .ok (.iload 7, 2) := dk_21 7 (dk_at dksX2_laid_7 21 rfl rfl)
theorem dX2_laid_186 : decode cX2_laid 186 = .ok (.aload_n 0, 1) := dk_42 (dk_at dksX2_laid_7 23 rfl rfl)
theorem dX2_laid_187 : decode cX2_laid 187 = .ok (.iconst 0, 1) := dk_3 (dk_at dksX2_laid_8 0 rfl rfl)
theorem dX2_laid_188 : decode cX2_laid 188 = .ok (.bipush 9, 2) := dk_16 9 (dk_at dksX2_laid_8 1 rfl rfl)
theorem dX2_laid_190 : decode cX2_laid 190 = .ok (.invokevirtual 96, 3) := dk_182 0 96 (dk_at dksX2_laid_8 3 rfl rfl)
theorem dX2_laid_193 : decode cX2_laid 193 = .ok (.iastore, 1) := dk_79 (dk_at dksX2_laid_8 6 rfl rfl)
theorem dX2_laid_194 : decode cX2_laid 194 = .ok (.iconst 1, 1) := dk_4 (dk_at dksX2_laid_8 7 rfl rfl)
theorem dX2_laid_195 : decode cX2_laid 195 = .ok (.ireturn, 1) := dk_172 (dk_at dksX2_laid_8 8 rfl rfl)
theorem dX2_laid_196 : decode cX2_laid 196 = .ok (.aload_n 0, 1) := dk_42 (dk_at dksX2_laid_8 9 rfl rfl)
theorem dX2_laid_197 : decode cX2_laid 197 = .ok (.invokevirtual 157, 3) := dk_182 0 157 (dk_at dksX2_laid_8 10 rfl rfl)
theorem dX2_laid_200 : decode cX2_laid 200 = .ok (.istore 8, 2) := dk_54 8 (dk_at dksX2_laid_8 13 rfl rfl)
theorem dX2_laid_202 : decode cX2_laid 202 = .ok (.aload_n 0, 1) := dk_42 (dk_at dksX2_laid_8 15 rfl rfl)
theorem dX2_laid_203 : decode cX2_laid 203 = .ok (.invokevirtual 163, 3) := dk_182 0 163 (dk_at dksX2_laid_8 16 rfl rfl)
theorem dX2_laid_206 : decode cX2_laid 206 = .ok (.istore 9, 2) := dk_54 9 (dk_at dksX2_laid_8 19 rfl rfl)
theorem dX2_laid_208 : decode cX2_laid 208 = .ok (.aload_n 0, 1) := dk_42 (dk_at dksX2_laid_8 21 rfl rfl)
theorem dX2_laid_209 : decode cX2_laid 209 = .ok (.getfield 100, 3) := dk_180 0 100 (dk_at dksX2_laid_9 0 rfl rfl)
theorem dX2_laid_212 : decode cX2_laid 212 = .ok (.getfield 169, 3) := dk_180 0 169 (dk_at dksX2_laid_9 3 rfl rfl)
theorem dX2_laid_215 : decode cX2_laid 215 = .ok (.iload 8, 2) := dk_21 8 (dk_at dksX2_laid_9 6 rfl rfl)
theorem dX2_laid_217 : decode cX2_laid 217 = .ok (.aaload, 1) := dk_50 (dk_at dksX2_laid_9 8 rfl rfl)
theorem dX2_laid_218 : decode cX2_laid 218 = .ok (.iload 9, 2) := dk_21 9 (dk_at dksX2_laid_9 9 rfl rfl)
theorem dX2_laid_220 : decode cX2_laid 220 = .ok (.iaload, 1) := dk_46 (dk_at dksX2_laid_9 11 rfl rfl)
theorem dX2_laid_221 : decode cX2_laid 221 = .ok (.bipush 9, 2) := dk_16 9 (dk_at dksX2_laid_9 12 rfl rfl)
theorem dX2_laid_223 : decode cX2_laid 223 = .ok (.if_icmp .ne 13, 3) := dk_160 0 13 (dk_at dksX2_laid_9 14 rfl rfl)
theorem dX2_laid_226 : decode cX2_laid 226 = .ok (.aload_n 0, 1) := dk_42 (dk_at dksX2_laid_9 17 rfl rfl)
theorem dX2_laid_227 : decode cX2_laid 227 = .ok (.iconst 2, 1) := dk_5 (dk_at dksX2_laid_9 18 rfl rfl)
theorem dX2_laid_228 : decode cX2_laid 228 = .ok (.aload_n 0, 1) := dk_42 (dk_at dksX2_laid_9 19 rfl rfl)
theorem dX2_laid_229 : decode cX2_laid 229 = .ok (.getfield 61, 3) := dk_180 0 61 (dk_at dksX2_laid_9 20 rfl rfl)
theorem dX2_laid_232 : decode cX2_laid 232 = .ok (.invokevirtual 47, 3) := dk_182 0 47 (dk_at dksX2_laid_10 0 rfl rfl)
theorem dX2_laid_235 : decode cX2_laid 235 = .ok (.athrow, 1) := dk_191 (dk_at dksX2_laid_10 3 rfl rfl)
theorem dX2_laid_236 : decode cX2_laid 236 = .ok (.aload_n 0, 1) := dk_42 (dk_at dksX2_laid_10 4 rfl rfl)
theorem dX2_laid_237 : decode cX2_laid 237 = .ok (.getfield 100, 3) := dk_180 0 100 (dk_at dksX2_laid_10 5 rfl rfl)
theorem dX2_laid_240 : decode cX2_laid 240 = .ok (.getfield 169, 3) := dk_180 0 169 (dk_at dksX2_laid_10 8 rfl rfl)
theorem dX2_laid_243 : decode cX2_laid 243 = .ok (.iload 8, 2) := dk_21 8 (dk_at dksX2_laid_10 11 rfl rfl)
theorem dX2_laid_245 : decode cX2_laid 245 = .ok (.aaload, 1) := dk_50 (dk_at dksX2_laid_10 13 rfl rfl)
theorem dX2_laid_246 : decode cX2_laid 246 = .ok (.iload 9, 2) := dk_21 9 (dk_at dksX2_laid_10 14 rfl rfl)
theorem dX2_laid_248 : decode cX2_laid 248 = .ok (.dup2, 1) := dk_92 (dk_at dksX2_laid_10 16 rfl rfl)
theorem dX2_laid_249 : decode cX2_laid 249 = .ok (.iaload, 1) := dk_46 (dk_at dksX2_laid_10 17 rfl rfl)
theorem dX2_laid_250 : decode cX2_laid 250 = .ok (.iconst 1, 1) := dk_4 (dk_at dksX2_laid_10 18 rfl rfl)
theorem dX2_laid_251 : decode cX2_laid 251 = .ok (.iadd, 1) := dk_96 (dk_at dksX2_laid_10 19 rfl rfl)
theorem dX2_laid_252 : decode cX2_laid 252 = .ok (.iastore, 1) := dk_79 (dk_at dksX2_laid_10 20 rfl rfl)
theorem dX2_laid_253 : decode cX2_laid 253 = .ok (.iconst 1, 1) := dk_4 (dk_at dksX2_laid_10 21 rfl rfl)
theorem dX2_laid_254 : decode cX2_laid 254 = .ok (.ireturn, 1) := dk_172 (dk_at dksX2_laid_10 22 rfl rfl)
theorem dX2_laid_255 : decode cX2_laid 255 = .ok (.aload_n 0, 1) := dk_42 (dk_at dksX2_laid_10 23 rfl rfl)
theorem dX2_laid_256 : decode cX2_laid 256 = .ok (.aload_n 0, 1) := dk_42 (dk_at dksX2_laid_11 0 rfl rfl)
theorem dX2_laid_257 : decode cX2_laid 257 = .ok (.getfield 100, 3) := dk_180 0 100 (dk_at dksX2_laid_11 1 rfl rfl)
theorem dX2_laid_260 : decode cX2_laid 260 = .ok (.getfield 172, 3) := dk_180 0 172 (dk_at dksX2_laid_11 4 rfl rfl)
theorem dX2_laid_263 : decode cX2_laid 263 = .ok (.invokeinterface 176 1, 5) := by decide +kernel
theorem dX2_laid_268 : decode cX2_laid 268 = .ok (.iconst 5, 1) := dk_8 (dk_at dksX2_laid_11 12 rfl rfl)
theorem dX2_laid_269 : decode cX2_laid 269 = .ok (.if_icmp .ne 7, 3) := dk_160 0 7 (dk_at dksX2_laid_11 13 rfl rfl)
theorem dX2_laid_272 : decode cX2_laid 272 = .ok (.iconst 1, 1) := dk_4 (dk_at dksX2_laid_11 16 rfl rfl)
theorem dX2_laid_273 : decode cX2_laid 273 = .ok (.goto 4, 3) := dk_167 0 4 (dk_at dksX2_laid_11 17 rfl rfl)
theorem dX2_laid_276 : decode cX2_laid 276 = .ok (.iconst 0, 1) := dk_3 (dk_at dksX2_laid_11 20 rfl rfl)
theorem dX2_laid_277 : decode cX2_laid 277 = .ok (.iload_n 2, 1) := dk_28 (dk_at dksX2_laid_11 21 rfl rfl)
theorem dX2_laid_278 : decode cX2_laid 278 = .ok (.invokevirtual 134, 3) := dk_182 0 134 (dk_at dksX2_laid_12 0 rfl rfl)
theorem dX2_laid_281 : decode cX2_laid 281 = .ok (.aload_n 0, 1) := dk_42 (dk_at dksX2_laid_12 3 rfl rfl)
theorem dX2_laid_282 : decode cX2_laid 282 = .ok (.invokevirtual 180, 3) := dk_182 0 180 (dk_at dksX2_laid_12 4 rfl rfl)
theorem dX2_laid_285 : decode cX2_laid 285 = .ok (.iconst 1, 1) := dk_4 (dk_at dksX2_laid_12 7 rfl rfl)
theorem dX2_laid_286 : decode cX2_laid 286 = .ok (.ireturn, 1) := dk_172 (dk_at dksX2_laid_12 8 rfl rfl)
theorem dX2_laid_287 : decode cX2_laid 287 = .ok (.iconst 0, 1) := dk_3 (dk_at dksX2_laid_12 9 rfl rfl)
theorem dX2_laid_288 : decode cX2_laid 288 = .ok (.ireturn, 1) := dk_172 (dk_at dksX2_laid_12 10 rfl rfl)
abbrev cX2_column : ByteArray := prog_14_method_14_code
def yX2_column : MethodName := ⟨RX2, "column", "()I"⟩
def dkwX2_column_0 : List UInt8 := [42, 3, 42, 180, 0, 100, 180, 0, 104, 4, 100, 182, 0, 96, 172]
abbrev dktX2_column_0 : List UInt8 := dkwX2_column_0 ++ []
theorem dksX2_column_0 : cX2_column.data.toList.drop 0 = dktX2_column_0 := by decide +kernel
theorem dX2_column_0 : decode cX2_column 0 = .ok (.aload_n 0, 1) := dk_42 (dk_at dksX2_column_0 0 rfl rfl)
theorem dX2_column_1 : decode cX2_column 1 = .ok (.iconst 0, 1) := dk_3 (dk_at dksX2_column_0 1 rfl rfl)
theorem dX2_column_2 : decode cX2_column 2 = .ok (.aload_n 0, 1) := dk_42 (dk_at dksX2_column_0 2 rfl rfl)
theorem dX2_column_3 : decode cX2_column 3 = .ok (.getfield 100, 3) := dk_180 0 100 (dk_at dksX2_column_0 3 rfl rfl)
theorem dX2_column_6 : decode cX2_column 6 = .ok (.getfield 104, 3) := dk_180 0 104 (dk_at dksX2_column_0 6 rfl rfl)
theorem dX2_column_9 : decode cX2_column 9 = .ok (.iconst 1, 1) := dk_4 (dk_at dksX2_column_0 9 rfl rfl)
theorem dX2_column_10 : decode cX2_column 10 = .ok (.isub, 1) := dk_100 (dk_at dksX2_column_0 10 rfl rfl)
theorem dX2_column_11 : decode cX2_column 11 = .ok (.invokevirtual 96, 3) := dk_182 0 96 (dk_at dksX2_column_0 11 rfl rfl)
theorem dX2_column_14 : decode cX2_column 14 = .ok (.ireturn, 1) := dk_172 (dk_at dksX2_column_0 14 rfl rfl)
abbrev cX2_row : ByteArray := prog_14_method_15_code
def yX2_row : MethodName := ⟨RX2, "row", "()I"⟩
def dkwX2_row_0 : List UInt8 := [42, 3, 42, 180, 0, 100, 180, 0, 109, 4, 100, 182, 0, 96, 172]
abbrev dktX2_row_0 : List UInt8 := dkwX2_row_0 ++ []
theorem dksX2_row_0 : cX2_row.data.toList.drop 0 = dktX2_row_0 := by decide +kernel
theorem dX2_row_0 : decode cX2_row 0 = .ok (.aload_n 0, 1) := dk_42 (dk_at dksX2_row_0 0 rfl rfl)
theorem dX2_row_1 : decode cX2_row 1 = .ok (.iconst 0, 1) := dk_3 (dk_at dksX2_row_0 1 rfl rfl)
theorem dX2_row_2 : decode cX2_row 2 = .ok (.aload_n 0, 1) := dk_42 (dk_at dksX2_row_0 2 rfl rfl)
theorem dX2_row_3 : decode cX2_row 3 = .ok (.getfield 100, 3) := dk_180 0 100 (dk_at dksX2_row_0 3 rfl rfl)
theorem dX2_row_6 : decode cX2_row 6 = .ok (.getfield 109, 3) := dk_180 0 109 (dk_at dksX2_row_0 6 rfl rfl)
theorem dX2_row_9 : decode cX2_row 9 = .ok (.iconst 1, 1) := dk_4 (dk_at dksX2_row_0 9 rfl rfl)
theorem dX2_row_10 : decode cX2_row 10 = .ok (.isub, 1) := dk_100 (dk_at dksX2_row_0 10 rfl rfl)
theorem dX2_row_11 : decode cX2_row 11 = .ok (.invokevirtual 96, 3) := dk_182 0 96 (dk_at dksX2_row_0 11 rfl rfl)
theorem dX2_row_14 : decode cX2_row 14 = .ok (.ireturn, 1) := dk_172 (dk_at dksX2_row_0 14 rfl rfl)
abbrev cX2_lord : ByteArray := prog_14_method_18_code
def yX2_lord : MethodName := ⟨RX2, "lord", "()V"⟩
def dkwX2_lord_5 : List UInt8 := [185, 0, 202, 2, 0, 87, 177]
abbrev dktX2_lord_5 : List UInt8 := dkwX2_lord_5 ++ []
def dkwX2_lord_4 : List UInt8 := [43, 28, 29, 21, 4, 21, 5, 42, 18, 197, 3, 17, 3, 231, 182, 0, 120, 183, 0, 199]
abbrev dktX2_lord_4 : List UInt8 := dkwX2_lord_4 ++ dktX2_lord_5
def dkwX2_lord_3 : List UInt8 := [54, 4, 42, 18, 193, 3, 16, 99, 182, 0, 120, 54, 5, 42, 180, 0, 100, 180, 0, 172, 187, 0, 195, 89]
abbrev dktX2_lord_3 : List UInt8 := dkwX2_lord_3 ++ dktX2_lord_4
def dkwX2_lord_2 : List UInt8 := [28, 42, 180, 0, 100, 180, 0, 104, 4, 100, 182, 0, 120, 62, 42, 18, 191, 3, 16, 99, 182, 0, 120]
abbrev dktX2_lord_2 : List UInt8 := dkwX2_lord_2 ++ dktX2_lord_3
def dkwX2_lord_1 : List UInt8 := [182, 0, 47, 191, 42, 18, 189, 3, 42, 180, 0, 100, 180, 0, 104, 4, 100, 182, 0, 120, 61, 42, 18, 190]
abbrev dktX2_lord_1 : List UInt8 := dkwX2_lord_1 ++ dktX2_lord_2
def dkwX2_lord_0 : List UInt8 := [42, 182, 0, 182, 76, 42, 180, 0, 100, 43, 182, 0, 185, 153, 0, 13, 42, 6, 42, 180, 0, 61]
abbrev dktX2_lord_0 : List UInt8 := dkwX2_lord_0 ++ dktX2_lord_1
theorem dksX2_lord_0 : cX2_lord.data.toList.drop 0 = dktX2_lord_0 := by decide +kernel
theorem dksX2_lord_1 : cX2_lord.data.toList.drop 22 = dktX2_lord_1 := dk_seg dksX2_lord_0 22 rfl rfl
theorem dksX2_lord_2 : cX2_lord.data.toList.drop 46 = dktX2_lord_2 := dk_seg dksX2_lord_1 24 rfl rfl
theorem dksX2_lord_3 : cX2_lord.data.toList.drop 69 = dktX2_lord_3 := dk_seg dksX2_lord_2 23 rfl rfl
theorem dksX2_lord_4 : cX2_lord.data.toList.drop 93 = dktX2_lord_4 := dk_seg dksX2_lord_3 24 rfl rfl
theorem dksX2_lord_5 : cX2_lord.data.toList.drop 113 = dktX2_lord_5 := dk_seg dksX2_lord_4 20 rfl rfl
theorem dX2_lord_0 : decode cX2_lord 0 = .ok (.aload_n 0, 1) := dk_42 (dk_at dksX2_lord_0 0 rfl rfl)
theorem dX2_lord_1 : decode cX2_lord 1 = .ok (.invokevirtual 182, 3) := dk_182 0 182 (dk_at dksX2_lord_0 1 rfl rfl)
theorem dX2_lord_4 : decode cX2_lord 4 = .ok (.astore_n 1, 1) := dk_76 (dk_at dksX2_lord_0 4 rfl rfl)
theorem dX2_lord_5 : decode cX2_lord 5 = .ok (.aload_n 0, 1) := dk_42 (dk_at dksX2_lord_0 5 rfl rfl)
theorem dX2_lord_6 : decode cX2_lord 6 = .ok (.getfield 100, 3) := dk_180 0 100 (dk_at dksX2_lord_0 6 rfl rfl)
theorem dX2_lord_9 : decode cX2_lord 9 = .ok (.aload_n 1, 1) := dk_43 (dk_at dksX2_lord_0 9 rfl rfl)
theorem dX2_lord_10 : decode cX2_lord 10 = .ok (.invokevirtual 185, 3) := dk_182 0 185 (dk_at dksX2_lord_0 10 rfl rfl)
theorem dX2_lord_13 : decode cX2_lord 13 = .ok (.ifCond .eq 13, 3) := dk_153 0 13 (dk_at dksX2_lord_0 13 rfl rfl)
theorem dX2_lord_16 : decode cX2_lord 16 = .ok (.aload_n 0, 1) := dk_42 (dk_at dksX2_lord_0 16 rfl rfl)
theorem dX2_lord_17 : decode cX2_lord 17 = .ok (.iconst 3, 1) := dk_6 (dk_at dksX2_lord_0 17 rfl rfl)
theorem dX2_lord_18 : decode cX2_lord 18 = .ok (.aload_n 0, 1) := dk_42 (dk_at dksX2_lord_0 18 rfl rfl)
theorem dX2_lord_19 : decode cX2_lord 19 = .ok (.getfield 61, 3) := dk_180 0 61 (dk_at dksX2_lord_0 19 rfl rfl)
theorem dX2_lord_22 : decode cX2_lord 22 = .ok (.invokevirtual 47, 3) := dk_182 0 47 (dk_at dksX2_lord_1 0 rfl rfl)
theorem dX2_lord_25 : decode cX2_lord 25 = .ok (.athrow, 1) := dk_191 (dk_at dksX2_lord_1 3 rfl rfl)
theorem dX2_lord_26 : decode cX2_lord 26 = .ok (.aload_n 0, 1) := dk_42 (dk_at dksX2_lord_1 4 rfl rfl)
theorem dX2_lord_27 : decode cX2_lord 27 = .ok (.ldc 189, 2) := dk_18 189 (dk_at dksX2_lord_1 5 rfl rfl)
theorem dX2_lord_29 : decode cX2_lord 29 = .ok (.iconst 0, 1) := dk_3 (dk_at dksX2_lord_1 7 rfl rfl)
theorem dX2_lord_30 : decode cX2_lord 30 = .ok (.aload_n 0, 1) := dk_42 (dk_at dksX2_lord_1 8 rfl rfl)
theorem dX2_lord_31 : decode cX2_lord 31 = .ok (.getfield 100, 3) := dk_180 0 100 (dk_at dksX2_lord_1 9 rfl rfl)
theorem dX2_lord_34 : decode cX2_lord 34 = .ok (.getfield 104, 3) := dk_180 0 104 (dk_at dksX2_lord_1 12 rfl rfl)
theorem dX2_lord_37 : decode cX2_lord 37 = .ok (.iconst 1, 1) := dk_4 (dk_at dksX2_lord_1 15 rfl rfl)
theorem dX2_lord_38 : decode cX2_lord 38 = .ok (.isub, 1) := dk_100 (dk_at dksX2_lord_1 16 rfl rfl)
theorem dX2_lord_39 : decode cX2_lord 39 = .ok (.invokevirtual 120, 3) := dk_182 0 120 (dk_at dksX2_lord_1 17 rfl rfl)
theorem dX2_lord_42 : decode cX2_lord 42 = .ok (.istore_n 2, 1) := dk_61 (dk_at dksX2_lord_1 20 rfl rfl)
theorem dX2_lord_43 : decode cX2_lord 43 = .ok (.aload_n 0, 1) := dk_42 (dk_at dksX2_lord_1 21 rfl rfl)
theorem dX2_lord_44 : decode cX2_lord 44 = .ok (.ldc 190, 2) := dk_18 190 (dk_at dksX2_lord_1 22 rfl rfl)
theorem dX2_lord_46 : decode cX2_lord 46 = .ok (.iload_n 2, 1) := dk_28 (dk_at dksX2_lord_2 0 rfl rfl)
theorem dX2_lord_47 : decode cX2_lord 47 = .ok (.aload_n 0, 1) := dk_42 (dk_at dksX2_lord_2 1 rfl rfl)
theorem dX2_lord_48 : decode cX2_lord 48 = .ok (.getfield 100, 3) := dk_180 0 100 (dk_at dksX2_lord_2 2 rfl rfl)
theorem dX2_lord_51 : decode cX2_lord 51 = .ok (.getfield 104, 3) := dk_180 0 104 (dk_at dksX2_lord_2 5 rfl rfl)
theorem dX2_lord_54 : decode cX2_lord 54 = .ok (.iconst 1, 1) := dk_4 (dk_at dksX2_lord_2 8 rfl rfl)
theorem dX2_lord_55 : decode cX2_lord 55 = .ok (.isub, 1) := dk_100 (dk_at dksX2_lord_2 9 rfl rfl)
theorem dX2_lord_56 : decode cX2_lord 56 = .ok (.invokevirtual 120, 3) := dk_182 0 120 (dk_at dksX2_lord_2 10 rfl rfl)
theorem dX2_lord_59 : decode cX2_lord 59 = .ok (.istore_n 3, 1) := dk_62 (dk_at dksX2_lord_2 13 rfl rfl)
theorem dX2_lord_60 : decode cX2_lord 60 = .ok (.aload_n 0, 1) := dk_42 (dk_at dksX2_lord_2 14 rfl rfl)
theorem dX2_lord_61 : decode cX2_lord 61 = .ok (.ldc 191, 2) := dk_18 191 (dk_at dksX2_lord_2 15 rfl rfl)
theorem dX2_lord_63 : decode cX2_lord 63 = .ok (.iconst 0, 1) := dk_3 (dk_at dksX2_lord_2 17 rfl rfl)
theorem dX2_lord_64 : decode cX2_lord 64 = .ok (.bipush 99, 2) := dk_16 99 (dk_at dksX2_lord_2 18 rfl rfl)
theorem dX2_lord_66 : decode cX2_lord 66 = .ok (.invokevirtual 120, 3) := dk_182 0 120 (dk_at dksX2_lord_2 20 rfl rfl)
theorem dX2_lord_69 : decode cX2_lord 69 = .ok (.istore 4, 2) := dk_54 4 (dk_at dksX2_lord_3 0 rfl rfl)
theorem dX2_lord_71 : decode cX2_lord 71 = .ok (.aload_n 0, 1) := dk_42 (dk_at dksX2_lord_3 2 rfl rfl)
theorem dX2_lord_72 : decode cX2_lord 72 = .ok (.ldc 193, 2) := dk_18 193 (dk_at dksX2_lord_3 3 rfl rfl)
theorem dX2_lord_74 : decode cX2_lord 74 = .ok (.iconst 0, 1) := dk_3 (dk_at dksX2_lord_3 5 rfl rfl)
theorem dX2_lord_75 : decode cX2_lord 75 = .ok (.bipush 99, 2) := dk_16 99 (dk_at dksX2_lord_3 6 rfl rfl)
theorem dX2_lord_77 : decode cX2_lord 77 = .ok (.invokevirtual 120, 3) := dk_182 0 120 (dk_at dksX2_lord_3 8 rfl rfl)
theorem dX2_lord_80 : decode cX2_lord 80 = .ok (.istore 5, 2) := dk_54 5 (dk_at dksX2_lord_3 11 rfl rfl)
theorem dX2_lord_82 : decode cX2_lord 82 = .ok (.aload_n 0, 1) := dk_42 (dk_at dksX2_lord_3 13 rfl rfl)
theorem dX2_lord_83 : decode cX2_lord 83 = .ok (.getfield 100, 3) := dk_180 0 100 (dk_at dksX2_lord_3 14 rfl rfl)
theorem dX2_lord_86 : decode cX2_lord 86 = .ok (.getfield 172, 3) := dk_180 0 172 (dk_at dksX2_lord_3 17 rfl rfl)
theorem dX2_lord_89 : decode cX2_lord 89 = .ok (.new 195, 3) := dk_187 0 195 (dk_at dksX2_lord_3 20 rfl rfl)
theorem dX2_lord_92 : decode cX2_lord 92 = .ok (.dup, 1) := dk_89 (dk_at dksX2_lord_3 23 rfl rfl)
theorem dX2_lord_93 : decode cX2_lord 93 = .ok (.aload_n 1, 1) := dk_43 (dk_at dksX2_lord_4 0 rfl rfl)
theorem dX2_lord_94 : decode cX2_lord 94 = .ok (.iload_n 2, 1) := dk_28 (dk_at dksX2_lord_4 1 rfl rfl)
theorem dX2_lord_95 : decode cX2_lord 95 = .ok (.iload_n 3, 1) := dk_29 (dk_at dksX2_lord_4 2 rfl rfl)
theorem dX2_lord_96 : decode cX2_lord 96 = .ok (.iload 4, 2) := dk_21 4 (dk_at dksX2_lord_4 3 rfl rfl)
theorem dX2_lord_98 : decode cX2_lord 98 = .ok (.iload 5, 2) := dk_21 5 (dk_at dksX2_lord_4 5 rfl rfl)
theorem dX2_lord_100 : decode cX2_lord 100 = .ok (.aload_n 0, 1) := dk_42 (dk_at dksX2_lord_4 7 rfl rfl)
theorem dX2_lord_101 : decode cX2_lord 101 = .ok (.ldc 197, 2) := dk_18 197 (dk_at dksX2_lord_4 8 rfl rfl)
theorem dX2_lord_103 : decode cX2_lord 103 = .ok (.iconst 0, 1) := dk_3 (dk_at dksX2_lord_4 10 rfl rfl)
theorem dX2_lord_104 : decode cX2_lord 104 = .ok (.sipush 999, 3) := dk_17 3 231 (dk_at dksX2_lord_4 11 rfl rfl)
theorem dX2_lord_107 : decode cX2_lord 107 = .ok (.invokevirtual 120, 3) := dk_182 0 120 (dk_at dksX2_lord_4 14 rfl rfl)
theorem dX2_lord_110 : decode cX2_lord 110 = .ok (.invokespecial 199, 3) := dk_183 0 199 (dk_at dksX2_lord_4 17 rfl rfl)
theorem dX2_lord_113 : decode cX2_lord 113 = .ok (.invokeinterface 202 2, 5) := by decide +kernel
theorem dX2_lord_118 : decode cX2_lord 118 = .ok (.pop, 1) := dk_87 (dk_at dksX2_lord_5 5 rfl rfl)
theorem dX2_lord_119 : decode cX2_lord 119 = .ok (.return_, 1) := dk_177 (dk_at dksX2_lord_5 6 rfl rfl)
abbrev cX2_name : ByteArray := prog_14_method_10_code
def yX2_name : MethodName := ⟨RX2, "name", "()Ljava/lang/String;"⟩
def dkwX2_name_2 : List UInt8 := [182, 0, 47, 191, 43, 176]
abbrev dktX2_name_2 : List UInt8 := dkwX2_name_2 ++ []
def dkwX2_name_1 : List UInt8 := [182, 0, 47, 191, 43, 182, 0, 86, 16, 6, 164, 0, 16, 42, 4, 42, 180, 0, 61, 16, 6, 96]
abbrev dktX2_name_1 : List UInt8 := dkwX2_name_1 ++ dktX2_name_2
def dkwX2_name_0 : List UInt8 := [42, 182, 0, 70, 76, 43, 178, 0, 78, 184, 0, 82, 2, 159, 0, 13, 42, 4, 42, 180, 0, 61]
abbrev dktX2_name_0 : List UInt8 := dkwX2_name_0 ++ dktX2_name_1
theorem dksX2_name_0 : cX2_name.data.toList.drop 0 = dktX2_name_0 := by decide +kernel
theorem dksX2_name_1 : cX2_name.data.toList.drop 22 = dktX2_name_1 := dk_seg dksX2_name_0 22 rfl rfl
theorem dksX2_name_2 : cX2_name.data.toList.drop 44 = dktX2_name_2 := dk_seg dksX2_name_1 22 rfl rfl
theorem dX2_name_0 : decode cX2_name 0 = .ok (.aload_n 0, 1) := dk_42 (dk_at dksX2_name_0 0 rfl rfl)
theorem dX2_name_1 : decode cX2_name 1 = .ok (.invokevirtual 70, 3) := dk_182 0 70 (dk_at dksX2_name_0 1 rfl rfl)
theorem dX2_name_4 : decode cX2_name 4 = .ok (.astore_n 1, 1) := dk_76 (dk_at dksX2_name_0 4 rfl rfl)
theorem dX2_name_5 : decode cX2_name 5 = .ok (.aload_n 1, 1) := dk_43 (dk_at dksX2_name_0 5 rfl rfl)
theorem dX2_name_6 : decode cX2_name 6 = .ok (.getstatic 78, 3) := dk_178 0 78 (dk_at dksX2_name_0 6 rfl rfl)
theorem dX2_name_9 : decode cX2_name 9 = .ok (.invokestatic 82, 3) := dk_184 0 82 (dk_at dksX2_name_0 9 rfl rfl)
theorem dX2_name_12 : decode cX2_name 12 = .ok (.iconst (-1), 1) := dk_2 (dk_at dksX2_name_0 12 rfl rfl)
theorem dX2_name_13 : decode cX2_name 13 = .ok (.if_icmp .eq 13, 3) := dk_159 0 13 (dk_at dksX2_name_0 13 rfl rfl)
theorem dX2_name_16 : decode cX2_name 16 = .ok (.aload_n 0, 1) := dk_42 (dk_at dksX2_name_0 16 rfl rfl)
theorem dX2_name_17 : decode cX2_name 17 = .ok (.iconst 1, 1) := dk_4 (dk_at dksX2_name_0 17 rfl rfl)
theorem dX2_name_18 : decode cX2_name 18 = .ok (.aload_n 0, 1) := dk_42 (dk_at dksX2_name_0 18 rfl rfl)
theorem dX2_name_19 : decode cX2_name 19 = .ok (.getfield 61, 3) := dk_180 0 61 (dk_at dksX2_name_0 19 rfl rfl)
theorem dX2_name_22 : decode cX2_name 22 = .ok (.invokevirtual 47, 3) := dk_182 0 47 (dk_at dksX2_name_1 0 rfl rfl)
theorem dX2_name_25 : decode cX2_name 25 = .ok (.athrow, 1) := dk_191 (dk_at dksX2_name_1 3 rfl rfl)
theorem dX2_name_26 : decode cX2_name 26 = .ok (.aload_n 1, 1) := dk_43 (dk_at dksX2_name_1 4 rfl rfl)
theorem dX2_name_27 : decode cX2_name 27 = .ok (.invokevirtual 86, 3) := dk_182 0 86 (dk_at dksX2_name_1 5 rfl rfl)
theorem dX2_name_30 : decode cX2_name 30 = .ok (.bipush 6, 2) := dk_16 6 (dk_at dksX2_name_1 8 rfl rfl)
theorem dX2_name_32 : decode cX2_name 32 = .ok (.if_icmp .le 16, 3) := dk_164 0 16 (dk_at dksX2_name_1 10 rfl rfl)
theorem dX2_name_35 : decode cX2_name 35 = .ok (.aload_n 0, 1) := dk_42 (dk_at dksX2_name_1 13 rfl rfl)
theorem dX2_name_36 : decode cX2_name 36 = .ok (.iconst 1, 1) := dk_4 (dk_at dksX2_name_1 14 rfl rfl)
theorem dX2_name_37 : decode cX2_name 37 = .ok (.aload_n 0, 1) := dk_42 (dk_at dksX2_name_1 15 rfl rfl)
theorem dX2_name_38 : decode cX2_name 38 = .ok (.getfield 61, 3) := dk_180 0 61 (dk_at dksX2_name_1 16 rfl rfl)
theorem dX2_name_41 : decode cX2_name 41 = .ok (.bipush 6, 2) := dk_16 6 (dk_at dksX2_name_1 19 rfl rfl)
theorem dX2_name_43 : decode cX2_name 43 = .ok (.iadd, 1) := dk_96 (dk_at dksX2_name_1 21 rfl rfl)
theorem dX2_name_44 : decode cX2_name 44 = .ok (.invokevirtual 47, 3) := dk_182 0 47 (dk_at dksX2_name_2 0 rfl rfl)
theorem dX2_name_47 : decode cX2_name 47 = .ok (.athrow, 1) := dk_191 (dk_at dksX2_name_2 3 rfl rfl)
theorem dX2_name_48 : decode cX2_name 48 = .ok (.aload_n 1, 1) := dk_43 (dk_at dksX2_name_2 4 rfl rfl)
theorem dX2_name_49 : decode cX2_name 49 = .ok (.areturn, 1) := dk_176 (dk_at dksX2_name_2 5 rfl rfl)
abbrev cX2_more : ByteArray := prog_14_method_19_code
def yX2_more : MethodName := ⟨RX2, "more", "(Ljava/lang/String;I)V"⟩
def dkwX2_more_9 : List UInt8 := [181, 0, 228, 167, 0, 10, 42, 4, 28, 182, 0, 47, 191, 177]
abbrev dktX2_more_9 : List UInt8 := dkwX2_more_9 ++ []
def dkwX2_more_8 : List UInt8 := [180, 0, 100, 42, 182, 0, 224, 181, 0, 221, 167, 0, 27, 42, 180, 0, 100, 42, 3, 16, 100, 182, 0, 96]
abbrev dktX2_more_8 : List UInt8 := dkwX2_more_8 ++ dktX2_more_9
def dkwX2_more_7 : List UInt8 := [180, 0, 221, 198, 0, 7, 4, 167, 0, 4, 3, 28, 182, 0, 134, 42, 17, 3, 15, 181, 0, 214, 42]
abbrev dktX2_more_7 : List UInt8 := dkwX2_more_7 ++ dktX2_more_8
def dkwX2_more_6 : List UInt8 := [181, 0, 214, 42, 180, 0, 100, 42, 182, 0, 217, 181, 0, 211, 167, 0, 68, 42, 42, 180, 0, 100]
abbrev dktX2_more_6 : List UInt8 := dkwX2_more_6 ++ dktX2_more_7
def dkwX2_more_5 : List UInt8 := [42, 42, 180, 0, 100, 180, 0, 211, 198, 0, 7, 4, 167, 0, 4, 3, 28, 182, 0, 134, 42, 17, 0, 255]
abbrev dktX2_more_5 : List UInt8 := dkwX2_more_5 ++ dktX2_more_6
def dkwX2_more_4 : List UInt8 := [170, 0, 0, 0, 0, 0, 0, 127, 0, 0, 0, 0, 0, 0, 0, 2, 0, 0, 0, 28, 0, 0, 0, 69, 0, 0, 0, 110]
abbrev dktX2_more_4 : List UInt8 := dkwX2_more_4 ++ dktX2_more_5
def dkwX2_more_3 : List UInt8 := [4, 54, 4, 167, 0, 15, 45, 18, 209, 182, 0, 74, 153, 0, 6, 5, 54, 4, 21, 4]
abbrev dktX2_more_3 : List UInt8 := dkwX2_more_3 ++ dktX2_more_4
def dkwX2_more_2 : List UInt8 := [45, 18, 205, 182, 0, 74, 153, 0, 36, 3, 54, 4, 167, 0, 30, 45, 18, 207, 182, 0, 74, 153, 0, 21]
abbrev dktX2_more_2 : List UInt8 := dkwX2_more_2 ++ dktX2_more_3
def dkwX2_more_1 : List UInt8 := [171, 0, 0, 0, 0, 0, 77, 0, 0, 0, 3, 0, 46, 21, 57, 0, 0, 0, 50, 0, 47, 100, 27, 0, 0, 0, 35, 6, 136, 243, 21, 0, 0, 0, 65]
abbrev dktX2_more_1 : List UInt8 := dkwX2_more_1 ++ dktX2_more_2
def dkwX2_more_0 : List UInt8 := [43, 78, 2, 54, 4, 45, 182, 0, 146]
abbrev dktX2_more_0 : List UInt8 := dkwX2_more_0 ++ dktX2_more_1
theorem dksX2_more_0 : cX2_more.data.toList.drop 0 = dktX2_more_0 := by decide +kernel
theorem dksX2_more_1 : cX2_more.data.toList.drop 9 = dktX2_more_1 := dk_seg dksX2_more_0 9 rfl rfl
theorem dksX2_more_2 : cX2_more.data.toList.drop 44 = dktX2_more_2 := dk_seg dksX2_more_1 35 rfl rfl
theorem dksX2_more_3 : cX2_more.data.toList.drop 68 = dktX2_more_3 := dk_seg dksX2_more_2 24 rfl rfl
theorem dksX2_more_4 : cX2_more.data.toList.drop 88 = dktX2_more_4 := dk_seg dksX2_more_3 20 rfl rfl
theorem dksX2_more_5 : cX2_more.data.toList.drop 116 = dktX2_more_5 := dk_seg dksX2_more_4 28 rfl rfl
theorem dksX2_more_6 : cX2_more.data.toList.drop 140 = dktX2_more_6 := dk_seg dksX2_more_5 24 rfl rfl
theorem dksX2_more_7 : cX2_more.data.toList.drop 162 = dktX2_more_7 := dk_seg dksX2_more_6 22 rfl rfl
theorem dksX2_more_8 : cX2_more.data.toList.drop 185 = dktX2_more_8 := dk_seg dksX2_more_7 23 rfl rfl
theorem dksX2_more_9 : cX2_more.data.toList.drop 209 = dktX2_more_9 := dk_seg dksX2_more_8 24 rfl rfl
theorem dX2_more_0 : decode cX2_more 0 = .ok (.aload_n 1, 1) := dk_43 (dk_at dksX2_more_0 0 rfl rfl)
theorem dX2_more_1 : decode cX2_more 1 = .ok (.astore_n 3, 1) := dk_78 (dk_at dksX2_more_0 1 rfl rfl)
theorem dX2_more_2 : decode cX2_more 2 = .ok (.iconst (-1), 1) := dk_2 (dk_at dksX2_more_0 2 rfl rfl)
theorem dX2_more_3 : decode cX2_more 3 = .ok (.istore 4, 2) := dk_54 4 (dk_at dksX2_more_0 3 rfl rfl)
theorem dX2_more_5 : decode cX2_more 5 = .ok (.aload_n 3, 1) := dk_45 (dk_at dksX2_more_0 5 rfl rfl)
theorem dX2_more_6 : decode cX2_more 6 = .ok (.invokevirtual 146, 3) := dk_182 0 146 (dk_at dksX2_more_0 6 rfl rfl)
theorem dX2_more_9 : decode cX2_more 9 = .ok (.lookupswitch 77 #[(3020089, 50), (3105819, 35), (109638421, 65)], 35) := by decide +kernel
theorem dX2_more_44 : decode cX2_more 44 = .ok (.aload_n 3, 1) := dk_45 (dk_at dksX2_more_2 0 rfl rfl)
theorem dX2_more_45 : decode cX2_more 45 = .ok (.ldc 205, 2) := dk_18 205 (dk_at dksX2_more_2 1 rfl rfl)
theorem dX2_more_47 : decode cX2_more 47 = .ok (.invokevirtual 74, 3) := dk_182 0 74 (dk_at dksX2_more_2 3 rfl rfl)
theorem dX2_more_50 : decode cX2_more 50 = .ok (.ifCond .eq 36, 3) := dk_153 0 36 (dk_at dksX2_more_2 6 rfl rfl)
theorem dX2_more_53 : decode cX2_more 53 = .ok (.iconst 0, 1) := dk_3 (dk_at dksX2_more_2 9 rfl rfl)
theorem dX2_more_54 : decode cX2_more 54 = .ok (.istore 4, 2) := dk_54 4 (dk_at dksX2_more_2 10 rfl rfl)
theorem dX2_more_56 : decode cX2_more 56 = .ok (.goto 30, 3) := dk_167 0 30 (dk_at dksX2_more_2 12 rfl rfl)
theorem dX2_more_59 : decode cX2_more 59 = .ok (.aload_n 3, 1) := dk_45 (dk_at dksX2_more_2 15 rfl rfl)
theorem dX2_more_60 : decode cX2_more 60 = .ok (.ldc 207, 2) := dk_18 207 (dk_at dksX2_more_2 16 rfl rfl)
theorem dX2_more_62 : decode cX2_more 62 = .ok (.invokevirtual 74, 3) := dk_182 0 74 (dk_at dksX2_more_2 18 rfl rfl)
theorem dX2_more_65 : decode cX2_more 65 = .ok (.ifCond .eq 21, 3) := dk_153 0 21 (dk_at dksX2_more_2 21 rfl rfl)
theorem dX2_more_68 : decode cX2_more 68 = .ok (.iconst 1, 1) := dk_4 (dk_at dksX2_more_3 0 rfl rfl)
theorem dX2_more_69 : decode cX2_more 69 = .ok (.istore 4, 2) := dk_54 4 (dk_at dksX2_more_3 1 rfl rfl)
theorem dX2_more_71 : decode cX2_more 71 = .ok (.goto 15, 3) := dk_167 0 15 (dk_at dksX2_more_3 3 rfl rfl)
theorem dX2_more_74 : decode cX2_more 74 = .ok (.aload_n 3, 1) := dk_45 (dk_at dksX2_more_3 6 rfl rfl)
theorem dX2_more_75 : decode cX2_more 75 = .ok (.ldc 209, 2) := dk_18 209 (dk_at dksX2_more_3 7 rfl rfl)
theorem dX2_more_77 : decode cX2_more 77 = .ok (.invokevirtual 74, 3) := dk_182 0 74 (dk_at dksX2_more_3 9 rfl rfl)
theorem dX2_more_80 : decode cX2_more 80 = .ok (.ifCond .eq 6, 3) := dk_153 0 6 (dk_at dksX2_more_3 12 rfl rfl)
theorem dX2_more_83 : decode cX2_more 83 = .ok (.iconst 2, 1) := dk_5 (dk_at dksX2_more_3 15 rfl rfl)
theorem dX2_more_84 : decode cX2_more 84 = .ok (.istore 4, 2) := dk_54 4 (dk_at dksX2_more_3 16 rfl rfl)
theorem dX2_more_86 : decode cX2_more 86 = .ok (.iload 4, 2) := dk_21 4 (dk_at dksX2_more_3 18 rfl rfl)
theorem dX2_more_88 : decode cX2_more 88 = .ok (.tableswitch 127 0 2 #[28, 69, 110], 28) := by decide +kernel
theorem dX2_more_116 : decode cX2_more 116 = .ok (.aload_n 0, 1) := dk_42 (dk_at dksX2_more_5 0 rfl rfl)
theorem dX2_more_117 : decode cX2_more 117 = .ok (.aload_n 0, 1) := dk_42 (dk_at dksX2_more_5 1 rfl rfl)
theorem dX2_more_118 : decode cX2_more 118 = .ok (.getfield 100, 3) := dk_180 0 100 (dk_at dksX2_more_5 2 rfl rfl)
theorem dX2_more_121 : decode cX2_more 121 = .ok (.getfield 211, 3) := dk_180 0 211 (dk_at dksX2_more_5 5 rfl rfl)
theorem dX2_more_124 : decode cX2_more 124 = .ok (.ifnull 7, 3) := dk_198 0 7 (dk_at dksX2_more_5 8 rfl rfl)
theorem dX2_more_127 : decode cX2_more 127 = .ok (.iconst 1, 1) := dk_4 (dk_at dksX2_more_5 11 rfl rfl)
theorem dX2_more_128 : decode cX2_more 128 = .ok (.goto 4, 3) := dk_167 0 4 (dk_at dksX2_more_5 12 rfl rfl)
theorem dX2_more_131 : decode cX2_more 131 = .ok (.iconst 0, 1) := dk_3 (dk_at dksX2_more_5 15 rfl rfl)
theorem dX2_more_132 : decode cX2_more 132 = .ok (.iload_n 2, 1) := dk_28 (dk_at dksX2_more_5 16 rfl rfl)
theorem dX2_more_133 : decode cX2_more 133 = .ok (.invokevirtual 134, 3) := dk_182 0 134 (dk_at dksX2_more_5 17 rfl rfl)
theorem dX2_more_136 : decode cX2_more 136 = .ok (.aload_n 0, 1) := dk_42 (dk_at dksX2_more_5 20 rfl rfl)
theorem dX2_more_137 : decode cX2_more 137 = .ok (.sipush 255, 3) := dk_17 0 255 (dk_at dksX2_more_5 21 rfl rfl)
theorem dX2_more_140 : decode cX2_more 140 = .ok (.putfield 214, 3) := dk_181 0 214 (dk_at dksX2_more_6 0 rfl rfl)
theorem dX2_more_143 : decode cX2_more 143 = .ok (.aload_n 0, 1) := dk_42 (dk_at dksX2_more_6 3 rfl rfl)
theorem dX2_more_144 : decode cX2_more 144 = .ok (.getfield 100, 3) := dk_180 0 100 (dk_at dksX2_more_6 4 rfl rfl)
theorem dX2_more_147 : decode cX2_more 147 = .ok (.aload_n 0, 1) := dk_42 (dk_at dksX2_more_6 7 rfl rfl)
theorem dX2_more_148 : decode cX2_more 148 = .ok (.invokevirtual 217, 3) := dk_182 0 217 (dk_at dksX2_more_6 8 rfl rfl)
theorem dX2_more_151 : decode cX2_more 151 = .ok (.putfield 211, 3) := dk_181 0 211 (dk_at dksX2_more_6 11 rfl rfl)
theorem dX2_more_154 : decode cX2_more 154 = .ok (.goto 68, 3) := dk_167 0 68 (dk_at dksX2_more_6 14 rfl rfl)
theorem dX2_more_157 : decode cX2_more 157 = .ok (.aload_n 0, 1) := dk_42 (dk_at dksX2_more_6 17 rfl rfl)
theorem dX2_more_158 : decode cX2_more 158 = .ok (.aload_n 0, 1) := dk_42 (dk_at dksX2_more_6 18 rfl rfl)
theorem dX2_more_159 : decode cX2_more 159 = .ok (.getfield 100, 3) := dk_180 0 100 (dk_at dksX2_more_6 19 rfl rfl)
theorem dX2_more_162 : decode cX2_more 162 = .ok (.getfield 221, 3) := dk_180 0 221 (dk_at dksX2_more_7 0 rfl rfl)
theorem dX2_more_165 : decode cX2_more 165 = .ok (.ifnull 7, 3) := dk_198 0 7 (dk_at dksX2_more_7 3 rfl rfl)
theorem dX2_more_168 : decode cX2_more 168 = .ok (.iconst 1, 1) := dk_4 (dk_at dksX2_more_7 6 rfl rfl)
theorem dX2_more_169 : decode cX2_more 169 = .ok (.goto 4, 3) := dk_167 0 4 (dk_at dksX2_more_7 7 rfl rfl)
theorem dX2_more_172 : decode cX2_more 172 = .ok (.iconst 0, 1) := dk_3 (dk_at dksX2_more_7 10 rfl rfl)
theorem dX2_more_173 : decode cX2_more 173 = .ok (.iload_n 2, 1) := dk_28 (dk_at dksX2_more_7 11 rfl rfl)
theorem dX2_more_174 : decode cX2_more 174 = .ok (.invokevirtual 134, 3) := dk_182 0 134 (dk_at dksX2_more_7 12 rfl rfl)
theorem dX2_more_177 : decode cX2_more 177 = .ok (.aload_n 0, 1) := dk_42 (dk_at dksX2_more_7 15 rfl rfl)
theorem dX2_more_178 : decode cX2_more 178 = .ok (.sipush 783, 3) := dk_17 3 15 (dk_at dksX2_more_7 16 rfl rfl)
theorem dX2_more_181 : decode cX2_more 181 = .ok (.putfield 214, 3) := dk_181 0 214 (dk_at dksX2_more_7 19 rfl rfl)
theorem dX2_more_184 : decode cX2_more 184 = .ok (.aload_n 0, 1) := dk_42 (dk_at dksX2_more_7 22 rfl rfl)
theorem dX2_more_185 : decode cX2_more 185 = .ok (.getfield 100, 3) := dk_180 0 100 (dk_at dksX2_more_8 0 rfl rfl)
theorem dX2_more_188 : decode cX2_more 188 = .ok (.aload_n 0, 1) := dk_42 (dk_at dksX2_more_8 3 rfl rfl)
theorem dX2_more_189 : decode cX2_more 189 = .ok (.invokevirtual 224, 3) := dk_182 0 224 (dk_at dksX2_more_8 4 rfl rfl)
theorem dX2_more_192 : decode cX2_more 192 = .ok (.putfield 221, 3) := dk_181 0 221 (dk_at dksX2_more_8 7 rfl rfl)
theorem dX2_more_195 : decode cX2_more 195 = .ok (.goto 27, 3) := dk_167 0 27 (dk_at dksX2_more_8 10 rfl rfl)
theorem dX2_more_198 : decode cX2_more 198 = .ok (.aload_n 0, 1) := dk_42 (dk_at dksX2_more_8 13 rfl rfl)
theorem dX2_more_199 : decode cX2_more 199 = .ok (.getfield 100, 3) := dk_180 0 100 (dk_at dksX2_more_8 14 rfl rfl)
theorem dX2_more_202 : decode cX2_more 202 = .ok (.aload_n 0, 1) := dk_42 (dk_at dksX2_more_8 17 rfl rfl)
theorem dX2_more_203 : decode cX2_more 203 = .ok (.iconst 0, 1) := dk_3 (dk_at dksX2_more_8 18 rfl rfl)
theorem dX2_more_204 : decode cX2_more 204 = .ok (.bipush 100, 2) := dk_16 100 (dk_at dksX2_more_8 19 rfl rfl)
theorem dX2_more_206 : decode cX2_more 206 = .ok (.invokevirtual 96, 3) := dk_182 0 96 (dk_at dksX2_more_8 21 rfl rfl)
theorem dX2_more_209 : decode cX2_more 209 = .ok (.putfield 228, 3) := dk_181 0 228 (dk_at dksX2_more_9 0 rfl rfl)
theorem dX2_more_212 : decode cX2_more 212 = .ok (.goto 10, 3) := dk_167 0 10 (dk_at dksX2_more_9 3 rfl rfl)
theorem dX2_more_215 : decode cX2_more 215 = .ok (.aload_n 0, 1) := dk_42 (dk_at dksX2_more_9 6 rfl rfl)
theorem dX2_more_216 : decode cX2_more 216 = .ok (.iconst 1, 1) := dk_4 (dk_at dksX2_more_9 7 rfl rfl)
theorem dX2_more_217 : decode cX2_more 217 = .ok (.iload_n 2, 1) := dk_28 (dk_at dksX2_more_9 8 rfl rfl)
theorem dX2_more_218 : decode cX2_more 218 = .ok (.invokevirtual 47, 3) := dk_182 0 47 (dk_at dksX2_more_9 9 rfl rfl)
theorem dX2_more_221 : decode cX2_more 221 = .ok (.athrow, 1) := dk_191 (dk_at dksX2_more_9 12 rfl rfl)
theorem dX2_more_222 : decode cX2_more 222 = .ok (.return_, 1) := dk_177 (dk_at dksX2_more_9 13 rfl rfl)
abbrev cX2_sum : ByteArray := prog_14_method_21_code
def yX2_sum : MethodName := ⟨RX2, "sum", "()LBentRiver$Value;"⟩
def dkwX2_sum_3 : List UInt8 := [167, 255, 206, 43, 176]
abbrev dktX2_sum_3 : List UInt8 := dkwX2_sum_3 ++ []
def dkwX2_sum_2 : List UInt8 := [16, 45, 182, 0, 239, 153, 0, 16, 43, 16, 45, 42, 182, 0, 233, 182, 0, 236, 167, 255, 211, 3, 61]
abbrev dktX2_sum_2 : List UInt8 := dkwX2_sum_2 ++ dktX2_sum_3
def dkwX2_sum_1 : List UInt8 := [42, 16, 43, 182, 0, 239, 153, 0, 16, 43, 16, 43, 42, 182, 0, 233, 182, 0, 236, 167, 255, 233, 42]
abbrev dktX2_sum_1 : List UInt8 := dkwX2_sum_1 ++ dktX2_sum_2
def dkwX2_sum_0 : List UInt8 := [187, 0, 230, 89, 183, 0, 232, 76, 43, 16, 43, 42, 182, 0, 233, 182, 0, 236, 4, 61, 28, 153, 0, 52]
abbrev dktX2_sum_0 : List UInt8 := dkwX2_sum_0 ++ dktX2_sum_1
theorem dksX2_sum_0 : cX2_sum.data.toList.drop 0 = dktX2_sum_0 := by decide +kernel
theorem dksX2_sum_1 : cX2_sum.data.toList.drop 24 = dktX2_sum_1 := dk_seg dksX2_sum_0 24 rfl rfl
theorem dksX2_sum_2 : cX2_sum.data.toList.drop 47 = dktX2_sum_2 := dk_seg dksX2_sum_1 23 rfl rfl
theorem dksX2_sum_3 : cX2_sum.data.toList.drop 70 = dktX2_sum_3 := dk_seg dksX2_sum_2 23 rfl rfl
theorem dX2_sum_0 : decode cX2_sum 0 = .ok (.new 230, 3) := dk_187 0 230 (dk_at dksX2_sum_0 0 rfl rfl)
theorem dX2_sum_3 : decode cX2_sum 3 = .ok (.dup, 1) := dk_89 (dk_at dksX2_sum_0 3 rfl rfl)
theorem dX2_sum_4 : decode cX2_sum 4 = .ok (.invokespecial 232, 3) := dk_183 0 232 (dk_at dksX2_sum_0 4 rfl rfl)
theorem dX2_sum_7 : decode cX2_sum 7 = .ok (.astore_n 1, 1) := dk_76 (dk_at dksX2_sum_0 7 rfl rfl)
theorem dX2_sum_8 : decode cX2_sum 8 = .ok (.aload_n 1, 1) := dk_43 (dk_at dksX2_sum_0 8 rfl rfl)
theorem dX2_sum_9 : decode cX2_sum 9 = .ok (.bipush 43, 2) := dk_16 43 (dk_at dksX2_sum_0 9 rfl rfl)
theorem dX2_sum_11 : decode cX2_sum 11 = .ok (.aload_n 0, 1) := dk_42 (dk_at dksX2_sum_0 11 rfl rfl)
theorem dX2_sum_12 : decode cX2_sum 12 = .ok (.invokevirtual 233, 3) := dk_182 0 233 (dk_at dksX2_sum_0 12 rfl rfl)
theorem dX2_sum_15 : decode cX2_sum 15 = .ok (.invokevirtual 236, 3) := dk_182 0 236 (dk_at dksX2_sum_0 15 rfl rfl)
theorem dX2_sum_18 : decode cX2_sum 18 = .ok (.iconst 1, 1) := dk_4 (dk_at dksX2_sum_0 18 rfl rfl)
theorem dX2_sum_19 : decode cX2_sum 19 = .ok (.istore_n 2, 1) := dk_61 (dk_at dksX2_sum_0 19 rfl rfl)
theorem dX2_sum_20 : decode cX2_sum 20 = .ok (.iload_n 2, 1) := dk_28 (dk_at dksX2_sum_0 20 rfl rfl)
theorem dX2_sum_21 : decode cX2_sum 21 = .ok (.ifCond .eq 52, 3) := dk_153 0 52 (dk_at dksX2_sum_0 21 rfl rfl)
theorem dX2_sum_24 : decode cX2_sum 24 = .ok (.aload_n 0, 1) := dk_42 (dk_at dksX2_sum_1 0 rfl rfl)
theorem dX2_sum_25 : decode cX2_sum 25 = .ok (.bipush 43, 2) := dk_16 43 (dk_at dksX2_sum_1 1 rfl rfl)
theorem dX2_sum_27 : decode cX2_sum 27 = .ok (.invokevirtual 239, 3) := dk_182 0 239 (dk_at dksX2_sum_1 3 rfl rfl)
theorem dX2_sum_30 : decode cX2_sum 30 = .ok (.ifCond .eq 16, 3) := dk_153 0 16 (dk_at dksX2_sum_1 6 rfl rfl)
theorem dX2_sum_33 : decode cX2_sum 33 = .ok (.aload_n 1, 1) := dk_43 (dk_at dksX2_sum_1 9 rfl rfl)
theorem dX2_sum_34 : decode cX2_sum 34 = .ok (.bipush 43, 2) := dk_16 43 (dk_at dksX2_sum_1 10 rfl rfl)
theorem dX2_sum_36 : decode cX2_sum 36 = .ok (.aload_n 0, 1) := dk_42 (dk_at dksX2_sum_1 12 rfl rfl)
theorem dX2_sum_37 : decode cX2_sum 37 = .ok (.invokevirtual 233, 3) := dk_182 0 233 (dk_at dksX2_sum_1 13 rfl rfl)
theorem dX2_sum_40 : decode cX2_sum 40 = .ok (.invokevirtual 236, 3) := dk_182 0 236 (dk_at dksX2_sum_1 16 rfl rfl)
theorem dX2_sum_43 : decode cX2_sum 43 = .ok (.goto (-23), 3) := dk_167 255 233 (dk_at dksX2_sum_1 19 rfl rfl)
theorem dX2_sum_46 : decode cX2_sum 46 = .ok (.aload_n 0, 1) := dk_42 (dk_at dksX2_sum_1 22 rfl rfl)
theorem dX2_sum_47 : decode cX2_sum 47 = .ok (.bipush 45, 2) := dk_16 45 (dk_at dksX2_sum_2 0 rfl rfl)
theorem dX2_sum_49 : decode cX2_sum 49 = .ok (.invokevirtual 239, 3) := dk_182 0 239 (dk_at dksX2_sum_2 2 rfl rfl)
theorem dX2_sum_52 : decode cX2_sum 52 = .ok (.ifCond .eq 16, 3) := dk_153 0 16 (dk_at dksX2_sum_2 5 rfl rfl)
theorem dX2_sum_55 : decode cX2_sum 55 = .ok (.aload_n 1, 1) := dk_43 (dk_at dksX2_sum_2 8 rfl rfl)
theorem dX2_sum_56 : decode cX2_sum 56 = .ok (.bipush 45, 2) := dk_16 45 (dk_at dksX2_sum_2 9 rfl rfl)
theorem dX2_sum_58 : decode cX2_sum 58 = .ok (.aload_n 0, 1) := dk_42 (dk_at dksX2_sum_2 11 rfl rfl)
theorem dX2_sum_59 : decode cX2_sum 59 = .ok (.invokevirtual 233, 3) := dk_182 0 233 (dk_at dksX2_sum_2 12 rfl rfl)
theorem dX2_sum_62 : decode cX2_sum 62 = .ok (.invokevirtual 236, 3) := dk_182 0 236 (dk_at dksX2_sum_2 15 rfl rfl)
theorem dX2_sum_65 : decode cX2_sum 65 = .ok (.goto (-45), 3) := dk_167 255 211 (dk_at dksX2_sum_2 18 rfl rfl)
theorem dX2_sum_68 : decode cX2_sum 68 = .ok (.iconst 0, 1) := dk_3 (dk_at dksX2_sum_2 21 rfl rfl)
theorem dX2_sum_69 : decode cX2_sum 69 = .ok (.istore_n 2, 1) := dk_61 (dk_at dksX2_sum_2 22 rfl rfl)
theorem dX2_sum_70 : decode cX2_sum 70 = .ok (.goto (-50), 3) := dk_167 255 206 (dk_at dksX2_sum_3 0 rfl rfl)
theorem dX2_sum_73 : decode cX2_sum 73 = .ok (.aload_n 1, 1) := dk_43 (dk_at dksX2_sum_3 3 rfl rfl)
theorem dX2_sum_74 : decode cX2_sum 74 = .ok (.areturn, 1) := dk_176 (dk_at dksX2_sum_3 4 rfl rfl)
abbrev cX2_product : ByteArray := prog_14_method_22_code
def yX2_product : MethodName := ⟨RX2, "product", "()LBentRiver$Value;"⟩
def dkwX2_product_3 : List UInt8 := [167, 255, 206, 43, 176]
abbrev dktX2_product_3 : List UInt8 := dkwX2_product_3 ++ []
def dkwX2_product_2 : List UInt8 := [16, 47, 182, 0, 239, 153, 0, 16, 43, 16, 47, 42, 182, 0, 242, 182, 0, 236, 167, 255, 211, 3, 61]
abbrev dktX2_product_2 : List UInt8 := dkwX2_product_2 ++ dktX2_product_3
def dkwX2_product_1 : List UInt8 := [42, 16, 42, 182, 0, 239, 153, 0, 16, 43, 16, 42, 42, 182, 0, 242, 182, 0, 236, 167, 255, 233, 42]
abbrev dktX2_product_1 : List UInt8 := dkwX2_product_1 ++ dktX2_product_2
def dkwX2_product_0 : List UInt8 := [187, 0, 230, 89, 183, 0, 232, 76, 43, 16, 42, 42, 182, 0, 242, 182, 0, 236, 4, 61, 28, 153, 0, 52]
abbrev dktX2_product_0 : List UInt8 := dkwX2_product_0 ++ dktX2_product_1
theorem dksX2_product_0 : cX2_product.data.toList.drop 0 = dktX2_product_0 := by decide +kernel
theorem dksX2_product_1 : cX2_product.data.toList.drop 24 = dktX2_product_1 := dk_seg dksX2_product_0 24 rfl rfl
theorem dksX2_product_2 : cX2_product.data.toList.drop 47 = dktX2_product_2 := dk_seg dksX2_product_1 23 rfl rfl
theorem dksX2_product_3 : cX2_product.data.toList.drop 70 = dktX2_product_3 := dk_seg dksX2_product_2 23 rfl rfl
theorem dX2_product_0 : decode cX2_product 0 = .ok (.new 230, 3) := dk_187 0 230 (dk_at dksX2_product_0 0 rfl rfl)
theorem dX2_product_3 : decode cX2_product 3 = .ok (.dup, 1) := dk_89 (dk_at dksX2_product_0 3 rfl rfl)
theorem dX2_product_4 : decode cX2_product 4 = .ok (.invokespecial 232, 3) := dk_183 0 232 (dk_at dksX2_product_0 4 rfl rfl)
theorem dX2_product_7 : decode cX2_product 7 = .ok (.astore_n 1, 1) := dk_76 (dk_at dksX2_product_0 7 rfl rfl)
theorem dX2_product_8 : decode cX2_product 8 = .ok (.aload_n 1, 1) := dk_43 (dk_at dksX2_product_0 8 rfl rfl)
theorem dX2_product_9 : decode cX2_product 9 = .ok (.bipush 42, 2) := dk_16 42 (dk_at dksX2_product_0 9 rfl rfl)
theorem dX2_product_11 : decode cX2_product 11 = .ok (.aload_n 0, 1) := dk_42 (dk_at dksX2_product_0 11 rfl rfl)
theorem dX2_product_12 : decode cX2_product 12 = .ok (.invokevirtual 242, 3) := dk_182 0 242 (dk_at dksX2_product_0 12 rfl rfl)
theorem dX2_product_15 : decode cX2_product 15 = .ok (.invokevirtual 236, 3) := dk_182 0 236 (dk_at dksX2_product_0 15 rfl rfl)
theorem dX2_product_18 : decode cX2_product 18 = .ok (.iconst 1, 1) := dk_4 (dk_at dksX2_product_0 18 rfl rfl)
theorem dX2_product_19 : decode cX2_product 19 = .ok (.istore_n 2, 1) := dk_61 (dk_at dksX2_product_0 19 rfl rfl)
theorem dX2_product_20 : decode cX2_product 20 = .ok (.iload_n 2, 1) := dk_28 (dk_at dksX2_product_0 20 rfl rfl)
theorem dX2_product_21 : decode cX2_product 21 = .ok (.ifCond .eq 52, 3) := dk_153 0 52 (dk_at dksX2_product_0 21 rfl rfl)
theorem dX2_product_24 : decode cX2_product 24 = .ok (.aload_n 0, 1) := dk_42 (dk_at dksX2_product_1 0 rfl rfl)
theorem dX2_product_25 : decode cX2_product 25 = .ok (.bipush 42, 2) := dk_16 42 (dk_at dksX2_product_1 1 rfl rfl)
theorem dX2_product_27 : decode cX2_product 27 = .ok (.invokevirtual 239, 3) := dk_182 0 239 (dk_at dksX2_product_1 3 rfl rfl)
theorem dX2_product_30 : decode cX2_product 30 = .ok (.ifCond .eq 16, 3) := dk_153 0 16 (dk_at dksX2_product_1 6 rfl rfl)
theorem dX2_product_33 : decode cX2_product 33 = .ok (.aload_n 1, 1) := dk_43 (dk_at dksX2_product_1 9 rfl rfl)
theorem dX2_product_34 : decode cX2_product 34 = .ok (.bipush 42, 2) := dk_16 42 (dk_at dksX2_product_1 10 rfl rfl)
theorem dX2_product_36 : decode cX2_product 36 = .ok (.aload_n 0, 1) := dk_42 (dk_at dksX2_product_1 12 rfl rfl)
theorem dX2_product_37 : decode cX2_product 37 = .ok (.invokevirtual 242, 3) := dk_182 0 242 (dk_at dksX2_product_1 13 rfl rfl)
theorem dX2_product_40 : decode cX2_product 40 = .ok (.invokevirtual 236, 3) := dk_182 0 236 (dk_at dksX2_product_1 16 rfl rfl)
theorem dX2_product_43 : decode cX2_product 43 = .ok (.goto (-23), 3) := dk_167 255 233 (dk_at dksX2_product_1 19 rfl rfl)
theorem dX2_product_46 : decode cX2_product 46 = .ok (.aload_n 0, 1) := dk_42 (dk_at dksX2_product_1 22 rfl rfl)
theorem dX2_product_47 : decode cX2_product 47 = .ok (.bipush 47, 2) := dk_16 47 (dk_at dksX2_product_2 0 rfl rfl)
theorem dX2_product_49 : decode cX2_product 49 = .ok (.invokevirtual 239, 3) := dk_182 0 239 (dk_at dksX2_product_2 2 rfl rfl)
theorem dX2_product_52 : decode cX2_product 52 = .ok (.ifCond .eq 16, 3) := dk_153 0 16 (dk_at dksX2_product_2 5 rfl rfl)
theorem dX2_product_55 : decode cX2_product 55 = .ok (.aload_n 1, 1) := dk_43 (dk_at dksX2_product_2 8 rfl rfl)
theorem dX2_product_56 : decode cX2_product 56 = .ok (.bipush 47, 2) := dk_16 47 (dk_at dksX2_product_2 9 rfl rfl)
theorem dX2_product_58 : decode cX2_product 58 = .ok (.aload_n 0, 1) := dk_42 (dk_at dksX2_product_2 11 rfl rfl)
theorem dX2_product_59 : decode cX2_product 59 = .ok (.invokevirtual 242, 3) := dk_182 0 242 (dk_at dksX2_product_2 12 rfl rfl)
theorem dX2_product_62 : decode cX2_product 62 = .ok (.invokevirtual 236, 3) := dk_182 0 236 (dk_at dksX2_product_2 15 rfl rfl)
theorem dX2_product_65 : decode cX2_product 65 = .ok (.goto (-45), 3) := dk_167 255 211 (dk_at dksX2_product_2 18 rfl rfl)
theorem dX2_product_68 : decode cX2_product 68 = .ok (.iconst 0, 1) := dk_3 (dk_at dksX2_product_2 21 rfl rfl)
theorem dX2_product_69 : decode cX2_product 69 = .ok (.istore_n 2, 1) := dk_61 (dk_at dksX2_product_2 22 rfl rfl)
theorem dX2_product_70 : decode cX2_product 70 = .ok (.goto (-50), 3) := dk_167 255 206 (dk_at dksX2_product_3 0 rfl rfl)
theorem dX2_product_73 : decode cX2_product 73 = .ok (.aload_n 1, 1) := dk_43 (dk_at dksX2_product_3 3 rfl rfl)
theorem dX2_product_74 : decode cX2_product 74 = .ok (.areturn, 1) := dk_176 (dk_at dksX2_product_3 4 rfl rfl)
abbrev cX2_atom : ByteArray := prog_14_method_25_code
def yX2_atom : MethodName := ⟨RX2, "atom", "()LBentRiver$Value;"⟩
def dkwX2_atom_7 : List UInt8 := [182, 0, 253, 176]
abbrev dktX2_atom_7 : List UInt8 := dkwX2_atom_7 ++ []
def dkwX2_atom_6 : List UInt8 := [180, 0, 61, 182, 0, 47, 191, 42, 43, 19, 1, 24, 182, 0, 74, 153, 0, 7, 4, 167, 0, 4, 5]
abbrev dktX2_atom_6 : List UInt8 := dkwX2_atom_6 ++ dktX2_atom_7
def dkwX2_atom_5 : List UInt8 := [19, 1, 24, 182, 0, 74, 154, 0, 23, 43, 19, 1, 26, 182, 0, 74, 154, 0, 13, 42, 4, 42]
abbrev dktX2_atom_5 : List UInt8 := dkwX2_atom_5 ++ dktX2_atom_6
def dkwX2_atom_4 : List UInt8 := [178, 1, 18, 184, 0, 82, 167, 0, 4, 2, 61, 28, 2, 159, 0, 9, 42, 28, 182, 1, 21, 176, 43]
abbrev dktX2_atom_4 : List UInt8 := dkwX2_atom_4 ++ dktX2_atom_5
def dkwX2_atom_3 : List UInt8 := [153, 0, 12, 187, 1, 13, 89, 28, 183, 1, 15, 176, 42, 180, 0, 214, 19, 1, 17, 160, 0, 13, 43]
abbrev dktX2_atom_3 : List UInt8 := dkwX2_atom_3 ++ dktX2_atom_4
def dkwX2_atom_2 : List UInt8 := [76, 43, 178, 1, 6, 184, 0, 82, 61, 28, 2, 159, 0, 23, 42, 180, 0, 214, 28, 184, 1, 9]
abbrev dktX2_atom_2 : List UInt8 := dkwX2_atom_2 ++ dktX2_atom_3
def dkwX2_atom_1 : List UInt8 := [153, 0, 20, 187, 1, 1, 89, 42, 3, 17, 39, 15, 182, 0, 96, 133, 183, 1, 3, 176, 42, 182, 0, 70]
abbrev dktX2_atom_1 : List UInt8 := dkwX2_atom_1 ++ dktX2_atom_2
def dkwX2_atom_0 : List UInt8 := [42, 182, 0, 43, 16, 40, 160, 0, 9, 42, 3, 182, 0, 253, 176, 42, 182, 0, 43, 184, 0, 55]
abbrev dktX2_atom_0 : List UInt8 := dkwX2_atom_0 ++ dktX2_atom_1
theorem dksX2_atom_0 : cX2_atom.data.toList.drop 0 = dktX2_atom_0 := by decide +kernel
theorem dksX2_atom_1 : cX2_atom.data.toList.drop 22 = dktX2_atom_1 := dk_seg dksX2_atom_0 22 rfl rfl
theorem dksX2_atom_2 : cX2_atom.data.toList.drop 46 = dktX2_atom_2 := dk_seg dksX2_atom_1 24 rfl rfl
theorem dksX2_atom_3 : cX2_atom.data.toList.drop 68 = dktX2_atom_3 := dk_seg dksX2_atom_2 22 rfl rfl
theorem dksX2_atom_4 : cX2_atom.data.toList.drop 91 = dktX2_atom_4 := dk_seg dksX2_atom_3 23 rfl rfl
theorem dksX2_atom_5 : cX2_atom.data.toList.drop 114 = dktX2_atom_5 := dk_seg dksX2_atom_4 23 rfl rfl
theorem dksX2_atom_6 : cX2_atom.data.toList.drop 136 = dktX2_atom_6 := dk_seg dksX2_atom_5 22 rfl rfl
theorem dksX2_atom_7 : cX2_atom.data.toList.drop 159 = dktX2_atom_7 := dk_seg dksX2_atom_6 23 rfl rfl
theorem dX2_atom_0 : decode cX2_atom 0 = .ok (.aload_n 0, 1) := dk_42 (dk_at dksX2_atom_0 0 rfl rfl)
theorem dX2_atom_1 : decode cX2_atom 1 = .ok (.invokevirtual 43, 3) := dk_182 0 43 (dk_at dksX2_atom_0 1 rfl rfl)
theorem dX2_atom_4 : decode cX2_atom 4 = .ok (.bipush 40, 2) := dk_16 40 (dk_at dksX2_atom_0 4 rfl rfl)
theorem dX2_atom_6 : decode cX2_atom 6 = .ok (.if_icmp .ne 9, 3) := dk_160 0 9 (dk_at dksX2_atom_0 6 rfl rfl)
theorem dX2_atom_9 : decode cX2_atom 9 = .ok (.aload_n 0, 1) := dk_42 (dk_at dksX2_atom_0 9 rfl rfl)
theorem dX2_atom_10 : decode cX2_atom 10 = .ok (.iconst 0, 1) := dk_3 (dk_at dksX2_atom_0 10 rfl rfl)
theorem dX2_atom_11 : decode cX2_atom 11 = .ok (.invokevirtual 253, 3) := dk_182 0 253 (dk_at dksX2_atom_0 11 rfl rfl)
theorem dX2_atom_14 : decode cX2_atom 14 = .ok (.areturn, 1) := dk_176 (dk_at dksX2_atom_0 14 rfl rfl)
theorem dX2_atom_15 : decode cX2_atom 15 = .ok (.aload_n 0, 1) := dk_42 (dk_at dksX2_atom_0 15 rfl rfl)
theorem dX2_atom_16 : decode cX2_atom 16 = .ok (.invokevirtual 43, 3) := dk_182 0 43 (dk_at dksX2_atom_0 16 rfl rfl)
theorem dX2_atom_19 : decode cX2_atom 19 = .ok (.invokestatic 55, 3) := dk_184 0 55 (dk_at dksX2_atom_0 19 rfl rfl)
theorem dX2_atom_22 : decode cX2_atom 22 = .ok (.ifCond .eq 20, 3) := dk_153 0 20 (dk_at dksX2_atom_1 0 rfl rfl)
theorem dX2_atom_25 : decode cX2_atom 25 = .ok (.new 257, 3) := dk_187 1 1 (dk_at dksX2_atom_1 3 rfl rfl)
theorem dX2_atom_28 : decode cX2_atom 28 = .ok (.dup, 1) := dk_89 (dk_at dksX2_atom_1 6 rfl rfl)
theorem dX2_atom_29 : decode cX2_atom 29 = .ok (.aload_n 0, 1) := dk_42 (dk_at dksX2_atom_1 7 rfl rfl)
theorem dX2_atom_30 : decode cX2_atom 30 = .ok (.iconst 0, 1) := dk_3 (dk_at dksX2_atom_1 8 rfl rfl)
theorem dX2_atom_31 : decode cX2_atom 31 = .ok (.sipush 9999, 3) := dk_17 39 15 (dk_at dksX2_atom_1 9 rfl rfl)
theorem dX2_atom_34 : decode cX2_atom 34 = .ok (.invokevirtual 96, 3) := dk_182 0 96 (dk_at dksX2_atom_1 12 rfl rfl)
theorem dX2_atom_37 : decode cX2_atom 37 = .ok (.i2l, 1) := dk_133 (dk_at dksX2_atom_1 15 rfl rfl)
theorem dX2_atom_38 : decode cX2_atom 38 = .ok (.invokespecial 259, 3) := dk_183 1 3 (dk_at dksX2_atom_1 16 rfl rfl)
theorem dX2_atom_41 : decode cX2_atom 41 = .ok (.areturn, 1) := dk_176 (dk_at dksX2_atom_1 19 rfl rfl)
theorem dX2_atom_42 : decode cX2_atom 42 = .ok (.aload_n 0, 1) := dk_42 (dk_at dksX2_atom_1 20 rfl rfl)
theorem dX2_atom_43 : decode cX2_atom 43 = .ok (.invokevirtual 70, 3) := dk_182 0 70 (dk_at dksX2_atom_1 21 rfl rfl)
theorem dX2_atom_46 : decode cX2_atom 46 = .ok (.astore_n 1, 1) := dk_76 (dk_at dksX2_atom_2 0 rfl rfl)
theorem dX2_atom_47 : decode cX2_atom 47 = .ok (.aload_n 1, 1) := dk_43 (dk_at dksX2_atom_2 1 rfl rfl)
theorem dX2_atom_48 : decode cX2_atom 48 = .ok (.getstatic 262, 3) := dk_178 1 6 (dk_at dksX2_atom_2 2 rfl rfl)
theorem dX2_atom_51 : decode cX2_atom 51 = .ok (.invokestatic 82, 3) := dk_184 0 82 (dk_at dksX2_atom_2 5 rfl rfl)
theorem dX2_atom_54 : decode cX2_atom 54 = .ok (.istore_n 2, 1) := dk_61 (dk_at dksX2_atom_2 8 rfl rfl)
theorem dX2_atom_55 : decode cX2_atom 55 = .ok (.iload_n 2, 1) := dk_28 (dk_at dksX2_atom_2 9 rfl rfl)
theorem dX2_atom_56 : decode cX2_atom 56 = .ok (.iconst (-1), 1) := dk_2 (dk_at dksX2_atom_2 10 rfl rfl)
theorem dX2_atom_57 : decode cX2_atom 57 = .ok (.if_icmp .eq 23, 3) := dk_159 0 23 (dk_at dksX2_atom_2 11 rfl rfl)
theorem dX2_atom_60 : decode cX2_atom 60 = .ok (.aload_n 0, 1) := dk_42 (dk_at dksX2_atom_2 14 rfl rfl)
theorem dX2_atom_61 : decode cX2_atom 61 = .ok (.getfield 214, 3) := dk_180 0 214 (dk_at dksX2_atom_2 15 rfl rfl)
theorem dX2_atom_64 : decode cX2_atom 64 = .ok (.iload_n 2, 1) := dk_28 (dk_at dksX2_atom_2 18 rfl rfl)
theorem dX2_atom_65 : decode cX2_atom 65 = .ok (.invokestatic 265, 3) := dk_184 1 9 (dk_at dksX2_atom_2 19 rfl rfl)
theorem dX2_atom_68 : decode cX2_atom 68 = .ok (.ifCond .eq 12, 3) := dk_153 0 12 (dk_at dksX2_atom_3 0 rfl rfl)
theorem dX2_atom_71 : decode cX2_atom 71 = .ok (.new 269, 3) := dk_187 1 13 (dk_at dksX2_atom_3 3 rfl rfl)
theorem dX2_atom_74 : decode cX2_atom 74 = .ok (.dup, 1) := dk_89 (dk_at dksX2_atom_3 6 rfl rfl)
theorem dX2_atom_75 : decode cX2_atom 75 = .ok (.iload_n 2, 1) := dk_28 (dk_at dksX2_atom_3 7 rfl rfl)
theorem dX2_atom_76 : decode cX2_atom 76 = .ok (.invokespecial 271, 3) := dk_183 1 15 (dk_at dksX2_atom_3 8 rfl rfl)
theorem dX2_atom_79 : decode cX2_atom 79 = .ok (.areturn, 1) := dk_176 (dk_at dksX2_atom_3 11 rfl rfl)
theorem dX2_atom_80 : decode cX2_atom 80 = .ok (.aload_n 0, 1) := dk_42 (dk_at dksX2_atom_3 12 rfl rfl)
theorem dX2_atom_81 : decode cX2_atom 81 = .ok (.getfield 214, 3) := dk_180 0 214 (dk_at dksX2_atom_3 13 rfl rfl)
theorem dX2_atom_84 : decode cX2_atom 84 = .ok (.ldc_w 273, 3) := dk_19 1 17 (dk_at dksX2_atom_3 16 rfl rfl)
theorem dX2_atom_87 : decode cX2_atom 87 = .ok (.if_icmp .ne 13, 3) := dk_160 0 13 (dk_at dksX2_atom_3 19 rfl rfl)
theorem dX2_atom_90 : decode cX2_atom 90 = .ok (.aload_n 1, 1) := dk_43 (dk_at dksX2_atom_3 22 rfl rfl)
theorem dX2_atom_91 : decode cX2_atom 91 = .ok (.getstatic 274, 3) := dk_178 1 18 (dk_at dksX2_atom_4 0 rfl rfl)
theorem dX2_atom_94 : decode cX2_atom 94 = .ok (.invokestatic 82, 3) := dk_184 0 82 (dk_at dksX2_atom_4 3 rfl rfl)
theorem dX2_atom_97 : decode cX2_atom 97 = .ok (.goto 4, 3) := dk_167 0 4 (dk_at dksX2_atom_4 6 rfl rfl)
theorem dX2_atom_100 : decode cX2_atom 100 = .ok (.iconst (-1), 1) := dk_2 (dk_at dksX2_atom_4 9 rfl rfl)
theorem dX2_atom_101 : decode cX2_atom 101 = .ok (.istore_n 2, 1) := dk_61 (dk_at dksX2_atom_4 10 rfl rfl)
theorem dX2_atom_102 : decode cX2_atom 102 = .ok (.iload_n 2, 1) := dk_28 (dk_at dksX2_atom_4 11 rfl rfl)
theorem dX2_atom_103 : decode cX2_atom 103 = .ok (.iconst (-1), 1) := dk_2 (dk_at dksX2_atom_4 12 rfl rfl)
theorem dX2_atom_104 : decode cX2_atom 104 = .ok (.if_icmp .eq 9, 3) := dk_159 0 9 (dk_at dksX2_atom_4 13 rfl rfl)
theorem dX2_atom_107 : decode cX2_atom 107 = .ok (.aload_n 0, 1) := dk_42 (dk_at dksX2_atom_4 16 rfl rfl)
theorem dX2_atom_108 : decode cX2_atom 108 = .ok (.iload_n 2, 1) := dk_28 (dk_at dksX2_atom_4 17 rfl rfl)
theorem dX2_atom_109 : decode cX2_atom 109 = .ok (.invokevirtual 277, 3) := dk_182 1 21 (dk_at dksX2_atom_4 18 rfl rfl)
theorem dX2_atom_112 : decode cX2_atom 112 = .ok (.areturn, 1) := dk_176 (dk_at dksX2_atom_4 21 rfl rfl)
theorem dX2_atom_113 : decode cX2_atom 113 = .ok (.aload_n 1, 1) := dk_43 (dk_at dksX2_atom_4 22 rfl rfl)
theorem dX2_atom_114 : decode cX2_atom 114 = .ok (.ldc_w 280, 3) := dk_19 1 24 (dk_at dksX2_atom_5 0 rfl rfl)
theorem dX2_atom_117 : decode cX2_atom 117 = .ok (.invokevirtual 74, 3) := dk_182 0 74 (dk_at dksX2_atom_5 3 rfl rfl)
theorem dX2_atom_120 : decode cX2_atom 120 = .ok (.ifCond .ne 23, 3) := dk_154 0 23 (dk_at dksX2_atom_5 6 rfl rfl)
theorem dX2_atom_123 : decode cX2_atom 123 = .ok (.aload_n 1, 1) := dk_43 (dk_at dksX2_atom_5 9 rfl rfl)
theorem dX2_atom_124 : decode cX2_atom 124 = .ok (.ldc_w 282, 3) := dk_19 1 26 (dk_at dksX2_atom_5 10 rfl rfl)
theorem dX2_atom_127 : decode cX2_atom 127 = .ok (.invokevirtual 74, 3) := dk_182 0 74 (dk_at dksX2_atom_5 13 rfl rfl)
theorem dX2_atom_130 : decode cX2_atom 130 = .ok (.ifCond .ne 13, 3) := dk_154 0 13 (dk_at dksX2_atom_5 16 rfl rfl)
theorem dX2_atom_133 : decode cX2_atom 133 = .ok (.aload_n 0, 1) := dk_42 (dk_at dksX2_atom_5 19 rfl rfl)
theorem dX2_atom_134 : decode cX2_atom 134 = .ok (.iconst 1, 1) := dk_4 (dk_at dksX2_atom_5 20 rfl rfl)
theorem dX2_atom_135 : decode cX2_atom 135 = .ok (.aload_n 0, 1) := dk_42 (dk_at dksX2_atom_5 21 rfl rfl)
theorem dX2_atom_136 : decode cX2_atom 136 = .ok (.getfield 61, 3) := dk_180 0 61 (dk_at dksX2_atom_6 0 rfl rfl)
theorem dX2_atom_139 : decode cX2_atom 139 = .ok (.invokevirtual 47, 3) := dk_182 0 47 (dk_at dksX2_atom_6 3 rfl rfl)
theorem dX2_atom_142 : decode cX2_atom 142 = .ok (.athrow, 1) := dk_191 (dk_at dksX2_atom_6 6 rfl rfl)
theorem dX2_atom_143 : decode cX2_atom 143 = .ok (.aload_n 0, 1) := dk_42 (dk_at dksX2_atom_6 7 rfl rfl)
theorem dX2_atom_144 : decode cX2_atom 144 = .ok (.aload_n 1, 1) := dk_43 (dk_at dksX2_atom_6 8 rfl rfl)
theorem dX2_atom_145 : decode cX2_atom 145 = .ok (.ldc_w 280, 3) := dk_19 1 24 (dk_at dksX2_atom_6 9 rfl rfl)
theorem dX2_atom_148 : decode cX2_atom 148 = .ok (.invokevirtual 74, 3) := dk_182 0 74 (dk_at dksX2_atom_6 12 rfl rfl)
theorem dX2_atom_151 : decode cX2_atom 151 = .ok (.ifCond .eq 7, 3) := dk_153 0 7 (dk_at dksX2_atom_6 15 rfl rfl)
theorem dX2_atom_154 : decode cX2_atom 154 = .ok (.iconst 1, 1) := dk_4 (dk_at dksX2_atom_6 18 rfl rfl)
theorem dX2_atom_155 : decode cX2_atom 155 = .ok (.goto 4, 3) := dk_167 0 4 (dk_at dksX2_atom_6 19 rfl rfl)
theorem dX2_atom_158 : decode cX2_atom 158 = .ok (.iconst 2, 1) := dk_5 (dk_at dksX2_atom_6 22 rfl rfl)
theorem dX2_atom_159 : decode cX2_atom 159 = .ok (.invokevirtual 253, 3) := dk_182 0 253 (dk_at dksX2_atom_7 0 rfl rfl)
theorem dX2_atom_162 : decode cX2_atom 162 = .ok (.areturn, 1) := dk_176 (dk_at dksX2_atom_7 3 rfl rfl)
abbrev cX2_within : ByteArray := prog_14_method_24_code
def yX2_within : MethodName := ⟨RX2, "within", "(I)LBentRiver$Value;"⟩
def dkwX2_within_4 : List UInt8 := [176]
abbrev dktX2_within_4 : List UInt8 := dkwX2_within_4 ++ []
def dkwX2_within_3 : List UInt8 := [182, 0, 217, 183, 0, 250, 78, 42, 16, 41, 182, 0, 127, 42, 89, 180, 0, 113, 4, 100, 181, 0, 113, 45]
abbrev dktX2_within_3 : List UInt8 := dkwX2_within_3 ++ dktX2_within_4
def dkwX2_within_2 : List UInt8 := [42, 16, 44, 182, 0, 127, 187, 0, 248, 89, 27, 5, 160, 0, 7, 4, 167, 0, 4, 3, 44, 42]
abbrev dktX2_within_2 : List UInt8 := dkwX2_within_2 ++ dktX2_within_3
def dkwX2_within_1 : List UInt8 := [182, 0, 245, 42, 89, 180, 0, 36, 4, 96, 181, 0, 36, 42, 182, 0, 217, 77, 44, 78, 27, 158, 0, 32]
abbrev dktX2_within_1 : List UInt8 := dkwX2_within_1 ++ dktX2_within_2
def dkwX2_within_0 : List UInt8 := [42, 182, 0, 43, 16, 40, 159, 0, 13, 42, 4, 42, 180, 0, 36, 182, 0, 47, 191, 42, 42, 180, 0, 36]
abbrev dktX2_within_0 : List UInt8 := dkwX2_within_0 ++ dktX2_within_1
theorem dksX2_within_0 : cX2_within.data.toList.drop 0 = dktX2_within_0 := by decide +kernel
theorem dksX2_within_1 : cX2_within.data.toList.drop 24 = dktX2_within_1 := dk_seg dksX2_within_0 24 rfl rfl
theorem dksX2_within_2 : cX2_within.data.toList.drop 48 = dktX2_within_2 := dk_seg dksX2_within_1 24 rfl rfl
theorem dksX2_within_3 : cX2_within.data.toList.drop 70 = dktX2_within_3 := dk_seg dksX2_within_2 22 rfl rfl
theorem dksX2_within_4 : cX2_within.data.toList.drop 94 = dktX2_within_4 := dk_seg dksX2_within_3 24 rfl rfl
theorem dX2_within_0 : decode cX2_within 0 = .ok (.aload_n 0, 1) := dk_42 (dk_at dksX2_within_0 0 rfl rfl)
theorem dX2_within_1 : decode cX2_within 1 = .ok (.invokevirtual 43, 3) := dk_182 0 43 (dk_at dksX2_within_0 1 rfl rfl)
theorem dX2_within_4 : decode cX2_within 4 = .ok (.bipush 40, 2) := dk_16 40 (dk_at dksX2_within_0 4 rfl rfl)
theorem dX2_within_6 : decode cX2_within 6 = .ok (.if_icmp .eq 13, 3) := dk_159 0 13 (dk_at dksX2_within_0 6 rfl rfl)
theorem dX2_within_9 : decode cX2_within 9 = .ok (.aload_n 0, 1) := dk_42 (dk_at dksX2_within_0 9 rfl rfl)
theorem dX2_within_10 : decode cX2_within 10 = .ok (.iconst 1, 1) := dk_4 (dk_at dksX2_within_0 10 rfl rfl)
theorem dX2_within_11 : decode cX2_within 11 = .ok (.aload_n 0, 1) := dk_42 (dk_at dksX2_within_0 11 rfl rfl)
theorem dX2_within_12 : decode cX2_within 12 = .ok (.getfield 36, 3) := dk_180 0 36 (dk_at dksX2_within_0 12 rfl rfl)
theorem dX2_within_15 : decode cX2_within 15 = .ok (.invokevirtual 47, 3) := dk_182 0 47 (dk_at dksX2_within_0 15 rfl rfl)
theorem dX2_within_18 : decode cX2_within 18 = .ok (.athrow, 1) := dk_191 (dk_at dksX2_within_0 18 rfl rfl)
theorem dX2_within_19 : decode cX2_within 19 = .ok (.aload_n 0, 1) := dk_42 (dk_at dksX2_within_0 19 rfl rfl)
theorem dX2_within_20 : decode cX2_within 20 = .ok (.aload_n 0, 1) := dk_42 (dk_at dksX2_within_0 20 rfl rfl)
theorem dX2_within_21 : decode cX2_within 21 = .ok (.getfield 36, 3) := dk_180 0 36 (dk_at dksX2_within_0 21 rfl rfl)
theorem dX2_within_24 : decode cX2_within 24 = .ok (.invokevirtual 245, 3) := dk_182 0 245 (dk_at dksX2_within_1 0 rfl rfl)
theorem dX2_within_27 : decode cX2_within 27 = .ok (.aload_n 0, 1) := dk_42 (dk_at dksX2_within_1 3 rfl rfl)
theorem dX2_within_28 : decode cX2_within 28 = .ok (.dup, 1) := dk_89 (dk_at dksX2_within_1 4 rfl rfl)
theorem dX2_within_29 : decode cX2_within 29 = .ok (.getfield 36, 3) := dk_180 0 36 (dk_at dksX2_within_1 5 rfl rfl)
theorem dX2_within_32 : decode cX2_within 32 = .ok (.iconst 1, 1) := dk_4 (dk_at dksX2_within_1 8 rfl rfl)
theorem dX2_within_33 : decode cX2_within 33 = .ok (.iadd, 1) := dk_96 (dk_at dksX2_within_1 9 rfl rfl)
theorem dX2_within_34 : decode cX2_within 34 = .ok (.putfield 36, 3) := dk_181 0 36 (dk_at dksX2_within_1 10 rfl rfl)
theorem dX2_within_37 : decode cX2_within 37 = .ok (.aload_n 0, 1) := dk_42 (dk_at dksX2_within_1 13 rfl rfl)
theorem dX2_within_38 : decode cX2_within 38 = .ok (.invokevirtual 217, 3) := dk_182 0 217 (dk_at dksX2_within_1 14 rfl rfl)
theorem dX2_within_41 : decode cX2_within 41 = .ok (.astore_n 2, 1) := dk_77 (dk_at dksX2_within_1 17 rfl rfl)
theorem dX2_within_42 : decode cX2_within 42 = .ok (.aload_n 2, 1) := dk_44 (dk_at dksX2_within_1 18 rfl rfl)
theorem dX2_within_43 : decode cX2_within 43 = .ok (.astore_n 3, 1) := dk_78 (dk_at dksX2_within_1 19 rfl rfl)
theorem dX2_within_44 : decode cX2_within 44 = .ok (.iload_n 1, 1) := dk_27 (dk_at dksX2_within_1 20 rfl rfl)
theorem dX2_within_45 : decode cX2_within 45 = .ok (.ifCond .le 32, 3) := dk_158 0 32 (dk_at dksX2_within_1 21 rfl rfl)
theorem dX2_within_48 : decode cX2_within 48 = .ok (.aload_n 0, 1) := dk_42 (dk_at dksX2_within_2 0 rfl rfl)
theorem dX2_within_49 : decode cX2_within 49 = .ok (.bipush 44, 2) := dk_16 44 (dk_at dksX2_within_2 1 rfl rfl)
theorem dX2_within_51 : decode cX2_within 51 = .ok (.invokevirtual 127, 3) := dk_182 0 127 (dk_at dksX2_within_2 3 rfl rfl)
theorem dX2_within_54 : decode cX2_within 54 = .ok (.new 248, 3) := dk_187 0 248 (dk_at dksX2_within_2 6 rfl rfl)
theorem dX2_within_57 : decode cX2_within 57 = .ok (.dup, 1) := dk_89 (dk_at dksX2_within_2 9 rfl rfl)
theorem dX2_within_58 : decode cX2_within 58 = .ok (.iload_n 1, 1) := dk_27 (dk_at dksX2_within_2 10 rfl rfl)
theorem dX2_within_59 : decode cX2_within 59 = .ok (.iconst 2, 1) := dk_5 (dk_at dksX2_within_2 11 rfl rfl)
theorem dX2_within_60 : decode cX2_within 60 = .ok (.if_icmp .ne 7, 3) := dk_160 0 7 (dk_at dksX2_within_2 12 rfl rfl)
theorem dX2_within_63 : decode cX2_within 63 = .ok (.iconst 1, 1) := dk_4 (dk_at dksX2_within_2 15 rfl rfl)
theorem dX2_within_64 : decode cX2_within 64 = .ok (.goto 4, 3) := dk_167 0 4 (dk_at dksX2_within_2 16 rfl rfl)
theorem dX2_within_67 : decode cX2_within 67 = .ok (.iconst 0, 1) := dk_3 (dk_at dksX2_within_2 19 rfl rfl)
theorem dX2_within_68 : decode cX2_within 68 = .ok (.aload_n 2, 1) := dk_44 (dk_at dksX2_within_2 20 rfl rfl)
theorem dX2_within_69 : decode cX2_within 69 = .ok (.aload_n 0, 1) := dk_42 (dk_at dksX2_within_2 21 rfl rfl)
theorem dX2_within_70 : decode cX2_within 70 = .ok (.invokevirtual 217, 3) := dk_182 0 217 (dk_at dksX2_within_3 0 rfl rfl)
theorem dX2_within_73 : decode cX2_within 73 = .ok (.invokespecial 250, 3) := dk_183 0 250 (dk_at dksX2_within_3 3 rfl rfl)
theorem dX2_within_76 : decode cX2_within 76 = .ok (.astore_n 3, 1) := dk_78 (dk_at dksX2_within_3 6 rfl rfl)
theorem dX2_within_77 : decode cX2_within 77 = .ok (.aload_n 0, 1) := dk_42 (dk_at dksX2_within_3 7 rfl rfl)
theorem dX2_within_78 : decode cX2_within 78 = .ok (.bipush 41, 2) := dk_16 41 (dk_at dksX2_within_3 8 rfl rfl)
theorem dX2_within_80 : decode cX2_within 80 = .ok (.invokevirtual 127, 3) := dk_182 0 127 (dk_at dksX2_within_3 10 rfl rfl)
theorem dX2_within_83 : decode cX2_within 83 = .ok (.aload_n 0, 1) := dk_42 (dk_at dksX2_within_3 13 rfl rfl)
theorem dX2_within_84 : decode cX2_within 84 = .ok (.dup, 1) := dk_89 (dk_at dksX2_within_3 14 rfl rfl)
theorem dX2_within_85 : decode cX2_within 85 = .ok (.getfield 113, 3) := dk_180 0 113 (dk_at dksX2_within_3 15 rfl rfl)
theorem dX2_within_88 : decode cX2_within 88 = .ok (.iconst 1, 1) := dk_4 (dk_at dksX2_within_3 18 rfl rfl)
theorem dX2_within_89 : decode cX2_within 89 = .ok (.isub, 1) := dk_100 (dk_at dksX2_within_3 19 rfl rfl)
theorem dX2_within_90 : decode cX2_within 90 = .ok (.putfield 113, 3) := dk_181 0 113 (dk_at dksX2_within_3 20 rfl rfl)
theorem dX2_within_93 : decode cX2_within 93 = .ok (.aload_n 3, 1) := dk_45 (dk_at dksX2_within_3 23 rfl rfl)
theorem dX2_within_94 : decode cX2_within 94 = .ok (.areturn, 1) := dk_176 (dk_at dksX2_within_4 0 rfl rfl)
abbrev cX2_opens : ByteArray := prog_14_method_23_code
def yX2_opens : MethodName := ⟨RX2, "opens", "(I)V"⟩
def dkwX2_opens_1 : List UInt8 := [181, 0, 113, 177]
abbrev dktX2_opens_1 : List UInt8 := dkwX2_opens_1 ++ []
def dkwX2_opens_0 : List UInt8 := [42, 180, 0, 113, 16, 6, 160, 0, 10, 42, 7, 27, 182, 0, 47, 191, 42, 89, 180, 0, 113, 4, 96]
abbrev dktX2_opens_0 : List UInt8 := dkwX2_opens_0 ++ dktX2_opens_1
theorem dksX2_opens_0 : cX2_opens.data.toList.drop 0 = dktX2_opens_0 := by decide +kernel
theorem dksX2_opens_1 : cX2_opens.data.toList.drop 23 = dktX2_opens_1 := dk_seg dksX2_opens_0 23 rfl rfl
theorem dX2_opens_0 : decode cX2_opens 0 = .ok (.aload_n 0, 1) := dk_42 (dk_at dksX2_opens_0 0 rfl rfl)
theorem dX2_opens_1 : decode cX2_opens 1 = .ok (.getfield 113, 3) := dk_180 0 113 (dk_at dksX2_opens_0 1 rfl rfl)
theorem dX2_opens_4 : decode cX2_opens 4 = .ok (.bipush 6, 2) := dk_16 6 (dk_at dksX2_opens_0 4 rfl rfl)
theorem dX2_opens_6 : decode cX2_opens 6 = .ok (.if_icmp .ne 10, 3) := dk_160 0 10 (dk_at dksX2_opens_0 6 rfl rfl)
theorem dX2_opens_9 : decode cX2_opens 9 = .ok (.aload_n 0, 1) := dk_42 (dk_at dksX2_opens_0 9 rfl rfl)
theorem dX2_opens_10 : decode cX2_opens 10 = .ok (.iconst 4, 1) := dk_7 (dk_at dksX2_opens_0 10 rfl rfl)
theorem dX2_opens_11 : decode cX2_opens 11 = .ok (.iload_n 1, 1) := dk_27 (dk_at dksX2_opens_0 11 rfl rfl)
theorem dX2_opens_12 : decode cX2_opens 12 = .ok (.invokevirtual 47, 3) := dk_182 0 47 (dk_at dksX2_opens_0 12 rfl rfl)
theorem dX2_opens_15 : decode cX2_opens 15 = .ok (.athrow, 1) := dk_191 (dk_at dksX2_opens_0 15 rfl rfl)
theorem dX2_opens_16 : decode cX2_opens 16 = .ok (.aload_n 0, 1) := dk_42 (dk_at dksX2_opens_0 16 rfl rfl)
theorem dX2_opens_17 : decode cX2_opens 17 = .ok (.dup, 1) := dk_89 (dk_at dksX2_opens_0 17 rfl rfl)
theorem dX2_opens_18 : decode cX2_opens 18 = .ok (.getfield 113, 3) := dk_180 0 113 (dk_at dksX2_opens_0 18 rfl rfl)
theorem dX2_opens_21 : decode cX2_opens 21 = .ok (.iconst 1, 1) := dk_4 (dk_at dksX2_opens_0 21 rfl rfl)
theorem dX2_opens_22 : decode cX2_opens 22 = .ok (.iadd, 1) := dk_96 (dk_at dksX2_opens_0 22 rfl rfl)
theorem dX2_opens_23 : decode cX2_opens 23 = .ok (.putfield 113, 3) := dk_181 0 113 (dk_at dksX2_opens_1 0 rfl rfl)
theorem dX2_opens_26 : decode cX2_opens 26 = .ok (.return_, 1) := dk_177 (dk_at dksX2_opens_1 3 rfl rfl)
abbrev cX2_looked : ByteArray := prog_14_method_29_code
def yX2_looked : MethodName := ⟨RX2, "looked", "(I)LBentRiver$Value;"⟩
def dkwX2_looked_1 : List UInt8 := [77, 42, 89, 180, 0, 113, 4, 100, 181, 0, 113, 44, 176]
abbrev dktX2_looked_1 : List UInt8 := dkwX2_looked_1 ++ []
def dkwX2_looked_0 : List UInt8 := [42, 42, 180, 0, 61, 182, 0, 245, 187, 1, 66, 89, 42, 180, 0, 3, 27, 42, 182, 0, 242, 183, 1, 68]
abbrev dktX2_looked_0 : List UInt8 := dkwX2_looked_0 ++ dktX2_looked_1
theorem dksX2_looked_0 : cX2_looked.data.toList.drop 0 = dktX2_looked_0 := by decide +kernel
theorem dksX2_looked_1 : cX2_looked.data.toList.drop 24 = dktX2_looked_1 := dk_seg dksX2_looked_0 24 rfl rfl
theorem dX2_looked_0 : decode cX2_looked 0 = .ok (.aload_n 0, 1) := dk_42 (dk_at dksX2_looked_0 0 rfl rfl)
theorem dX2_looked_1 : decode cX2_looked 1 = .ok (.aload_n 0, 1) := dk_42 (dk_at dksX2_looked_0 1 rfl rfl)
theorem dX2_looked_2 : decode cX2_looked 2 = .ok (.getfield 61, 3) := dk_180 0 61 (dk_at dksX2_looked_0 2 rfl rfl)
theorem dX2_looked_5 : decode cX2_looked 5 = .ok (.invokevirtual 245, 3) := dk_182 0 245 (dk_at dksX2_looked_0 5 rfl rfl)
theorem dX2_looked_8 : decode cX2_looked 8 = .ok (.new 322, 3) := dk_187 1 66 (dk_at dksX2_looked_0 8 rfl rfl)
theorem dX2_looked_11 : decode cX2_looked 11 = .ok (.dup, 1) := dk_89 (dk_at dksX2_looked_0 11 rfl rfl)
theorem dX2_looked_12 : decode cX2_looked 12 = .ok (.aload_n 0, 1) := dk_42 (dk_at dksX2_looked_0 12 rfl rfl)
theorem dX2_looked_13 : decode cX2_looked 13 = .ok (.getfield 3, 3) := dk_180 0 3 (dk_at dksX2_looked_0 13 rfl rfl)
theorem dX2_looked_16 : decode cX2_looked 16 = .ok (.iload_n 1, 1) := dk_27 (dk_at dksX2_looked_0 16 rfl rfl)
theorem dX2_looked_17 : decode cX2_looked 17 = .ok (.aload_n 0, 1) := dk_42 (dk_at dksX2_looked_0 17 rfl rfl)
theorem dX2_looked_18 : decode cX2_looked 18 = .ok (.invokevirtual 242, 3) := dk_182 0 242 (dk_at dksX2_looked_0 18 rfl rfl)
theorem dX2_looked_21 : decode cX2_looked 21 = .ok (.invokespecial 324, 3) := dk_183 1 68 (dk_at dksX2_looked_0 21 rfl rfl)
theorem dX2_looked_24 : decode cX2_looked 24 = .ok (.astore_n 2, 1) := dk_77 (dk_at dksX2_looked_1 0 rfl rfl)
theorem dX2_looked_25 : decode cX2_looked 25 = .ok (.aload_n 0, 1) := dk_42 (dk_at dksX2_looked_1 1 rfl rfl)
theorem dX2_looked_26 : decode cX2_looked 26 = .ok (.dup, 1) := dk_89 (dk_at dksX2_looked_1 2 rfl rfl)
theorem dX2_looked_27 : decode cX2_looked 27 = .ok (.getfield 113, 3) := dk_180 0 113 (dk_at dksX2_looked_1 3 rfl rfl)
theorem dX2_looked_30 : decode cX2_looked 30 = .ok (.iconst 1, 1) := dk_4 (dk_at dksX2_looked_1 6 rfl rfl)
theorem dX2_looked_31 : decode cX2_looked 31 = .ok (.isub, 1) := dk_100 (dk_at dksX2_looked_1 7 rfl rfl)
theorem dX2_looked_32 : decode cX2_looked 32 = .ok (.putfield 113, 3) := dk_181 0 113 (dk_at dksX2_looked_1 8 rfl rfl)
theorem dX2_looked_35 : decode cX2_looked 35 = .ok (.aload_n 2, 1) := dk_44 (dk_at dksX2_looked_1 11 rfl rfl)
theorem dX2_looked_36 : decode cX2_looked 36 = .ok (.areturn, 1) := dk_176 (dk_at dksX2_looked_1 12 rfl rfl)
abbrev cX2_takes : ByteArray := prog_14_method_20_code
def yX2_takes : MethodName := ⟨RX2, "takes", "(I)Z"⟩
def dkwX2_takes_1 : List UInt8 := [167, 0, 4, 3, 96, 181, 0, 36, 28, 172]
abbrev dktX2_takes_1 : List UInt8 := dkwX2_takes_1 ++ []
def dkwX2_takes_0 : List UInt8 := [42, 182, 0, 43, 27, 160, 0, 7, 4, 167, 0, 4, 3, 61, 42, 89, 180, 0, 36, 28, 153, 0, 7, 4]
abbrev dktX2_takes_0 : List UInt8 := dkwX2_takes_0 ++ dktX2_takes_1
theorem dksX2_takes_0 : cX2_takes.data.toList.drop 0 = dktX2_takes_0 := by decide +kernel
theorem dksX2_takes_1 : cX2_takes.data.toList.drop 24 = dktX2_takes_1 := dk_seg dksX2_takes_0 24 rfl rfl
theorem dX2_takes_0 : decode cX2_takes 0 = .ok (.aload_n 0, 1) := dk_42 (dk_at dksX2_takes_0 0 rfl rfl)
theorem dX2_takes_1 : decode cX2_takes 1 = .ok (.invokevirtual 43, 3) := dk_182 0 43 (dk_at dksX2_takes_0 1 rfl rfl)
theorem dX2_takes_4 : decode cX2_takes 4 = .ok (.iload_n 1, 1) := dk_27 (dk_at dksX2_takes_0 4 rfl rfl)
theorem dX2_takes_5 : decode cX2_takes 5 = .ok (.if_icmp .ne 7, 3) := dk_160 0 7 (dk_at dksX2_takes_0 5 rfl rfl)
theorem dX2_takes_8 : decode cX2_takes 8 = .ok (.iconst 1, 1) := dk_4 (dk_at dksX2_takes_0 8 rfl rfl)
theorem dX2_takes_9 : decode cX2_takes 9 = .ok (.goto 4, 3) := dk_167 0 4 (dk_at dksX2_takes_0 9 rfl rfl)
theorem dX2_takes_12 : decode cX2_takes 12 = .ok (.iconst 0, 1) := dk_3 (dk_at dksX2_takes_0 12 rfl rfl)
theorem dX2_takes_13 : decode cX2_takes 13 = .ok (.istore_n 2, 1) := dk_61 (dk_at dksX2_takes_0 13 rfl rfl)
theorem dX2_takes_14 : decode cX2_takes 14 = .ok (.aload_n 0, 1) := dk_42 (dk_at dksX2_takes_0 14 rfl rfl)
theorem dX2_takes_15 : decode cX2_takes 15 = .ok (.dup, 1) := dk_89 (dk_at dksX2_takes_0 15 rfl rfl)
theorem dX2_takes_16 : decode cX2_takes 16 = .ok (.getfield 36, 3) := dk_180 0 36 (dk_at dksX2_takes_0 16 rfl rfl)
theorem dX2_takes_19 : decode cX2_takes 19 = .ok (.iload_n 2, 1) := dk_28 (dk_at dksX2_takes_0 19 rfl rfl)
theorem dX2_takes_20 : decode cX2_takes 20 = .ok (.ifCond .eq 7, 3) := dk_153 0 7 (dk_at dksX2_takes_0 20 rfl rfl)
theorem dX2_takes_23 : decode cX2_takes 23 = .ok (.iconst 1, 1) := dk_4 (dk_at dksX2_takes_0 23 rfl rfl)
theorem dX2_takes_24 : decode cX2_takes 24 = .ok (.goto 4, 3) := dk_167 0 4 (dk_at dksX2_takes_1 0 rfl rfl)
theorem dX2_takes_27 : decode cX2_takes 27 = .ok (.iconst 0, 1) := dk_3 (dk_at dksX2_takes_1 3 rfl rfl)
theorem dX2_takes_28 : decode cX2_takes 28 = .ok (.iadd, 1) := dk_96 (dk_at dksX2_takes_1 4 rfl rfl)
theorem dX2_takes_29 : decode cX2_takes 29 = .ok (.putfield 36, 3) := dk_181 0 36 (dk_at dksX2_takes_1 5 rfl rfl)
theorem dX2_takes_32 : decode cX2_takes 32 = .ok (.iload_n 2, 1) := dk_28 (dk_at dksX2_takes_1 8 rfl rfl)
theorem dX2_takes_33 : decode cX2_takes 33 = .ok (.ireturn, 1) := dk_172 (dk_at dksX2_takes_1 9 rfl rfl)
abbrev cX2_test : ByteArray := prog_14_method_26_code
def yX2_test : MethodName := ⟨RX2, "test", "()LBentRiver$Test;"⟩
def dkwX2_test_2 : List UInt8 := [167, 255, 232, 43, 176]
abbrev dktX2_test_2 : List UInt8 := dkwX2_test_2 ++ []
def dkwX2_test_1 : List UInt8 := [19, 1, 39, 182, 1, 41, 153, 0, 20, 43, 180, 1, 33, 42, 182, 1, 36, 185, 0, 202, 2, 0, 87]
abbrev dktX2_test_1 : List UInt8 := dkwX2_test_1 ++ dktX2_test_2
def dkwX2_test_0 : List UInt8 := [187, 1, 28, 89, 3, 183, 1, 30, 76, 43, 180, 1, 33, 42, 182, 1, 36, 185, 0, 202, 2, 0, 87, 42]
abbrev dktX2_test_0 : List UInt8 := dkwX2_test_0 ++ dktX2_test_1
theorem dksX2_test_0 : cX2_test.data.toList.drop 0 = dktX2_test_0 := by decide +kernel
theorem dksX2_test_1 : cX2_test.data.toList.drop 24 = dktX2_test_1 := dk_seg dksX2_test_0 24 rfl rfl
theorem dksX2_test_2 : cX2_test.data.toList.drop 47 = dktX2_test_2 := dk_seg dksX2_test_1 23 rfl rfl
theorem dX2_test_0 : decode cX2_test 0 = .ok (.new 284, 3) := dk_187 1 28 (dk_at dksX2_test_0 0 rfl rfl)
theorem dX2_test_3 : decode cX2_test 3 = .ok (.dup, 1) := dk_89 (dk_at dksX2_test_0 3 rfl rfl)
theorem dX2_test_4 : decode cX2_test 4 = .ok (.iconst 0, 1) := dk_3 (dk_at dksX2_test_0 4 rfl rfl)
theorem dX2_test_5 : decode cX2_test 5 = .ok (.invokespecial 286, 3) := dk_183 1 30 (dk_at dksX2_test_0 5 rfl rfl)
theorem dX2_test_8 : decode cX2_test 8 = .ok (.astore_n 1, 1) := dk_76 (dk_at dksX2_test_0 8 rfl rfl)
theorem dX2_test_9 : decode cX2_test 9 = .ok (.aload_n 1, 1) := dk_43 (dk_at dksX2_test_0 9 rfl rfl)
theorem dX2_test_10 : decode cX2_test 10 = .ok (.getfield 289, 3) := dk_180 1 33 (dk_at dksX2_test_0 10 rfl rfl)
theorem dX2_test_13 : decode cX2_test 13 = .ok (.aload_n 0, 1) := dk_42 (dk_at dksX2_test_0 13 rfl rfl)
theorem dX2_test_14 : decode cX2_test 14 = .ok (.invokevirtual 292, 3) := dk_182 1 36 (dk_at dksX2_test_0 14 rfl rfl)
theorem dX2_test_17 : decode cX2_test 17 = .ok (.invokeinterface 202 2, 5) := by decide +kernel
theorem dX2_test_22 : decode cX2_test 22 = .ok (.pop, 1) := dk_87 (dk_at dksX2_test_0 22 rfl rfl)
theorem dX2_test_23 : decode cX2_test 23 = .ok (.aload_n 0, 1) := dk_42 (dk_at dksX2_test_0 23 rfl rfl)
theorem dX2_test_24 : decode cX2_test 24 = .ok (.ldc_w 295, 3) := dk_19 1 39 (dk_at dksX2_test_1 0 rfl rfl)
theorem dX2_test_27 : decode cX2_test 27 = .ok (.invokevirtual 297, 3) := dk_182 1 41 (dk_at dksX2_test_1 3 rfl rfl)
theorem dX2_test_30 : decode cX2_test 30 = .ok (.ifCond .eq 20, 3) := dk_153 0 20 (dk_at dksX2_test_1 6 rfl rfl)
theorem dX2_test_33 : decode cX2_test 33 = .ok (.aload_n 1, 1) := dk_43 (dk_at dksX2_test_1 9 rfl rfl)
theorem dX2_test_34 : decode cX2_test 34 = .ok (.getfield 289, 3) := dk_180 1 33 (dk_at dksX2_test_1 10 rfl rfl)
theorem dX2_test_37 : decode cX2_test 37 = .ok (.aload_n 0, 1) := dk_42 (dk_at dksX2_test_1 13 rfl rfl)
theorem dX2_test_38 : decode cX2_test 38 = .ok (.invokevirtual 292, 3) := dk_182 1 36 (dk_at dksX2_test_1 14 rfl rfl)
theorem dX2_test_41 : decode cX2_test 41 = .ok (.invokeinterface 202 2, 5) := by decide +kernel
theorem dX2_test_46 : decode cX2_test 46 = .ok (.pop, 1) := dk_87 (dk_at dksX2_test_1 22 rfl rfl)
theorem dX2_test_47 : decode cX2_test 47 = .ok (.goto (-24), 3) := dk_167 255 232 (dk_at dksX2_test_2 0 rfl rfl)
theorem dX2_test_50 : decode cX2_test 50 = .ok (.aload_n 1, 1) := dk_43 (dk_at dksX2_test_2 3 rfl rfl)
theorem dX2_test_51 : decode cX2_test 51 = .ok (.areturn, 1) := dk_176 (dk_at dksX2_test_2 4 rfl rfl)
abbrev cX2_both : ByteArray := prog_14_method_27_code
def yX2_both : MethodName := ⟨RX2, "both", "()LBentRiver$Test;"⟩
def dkwX2_both_2 : List UInt8 := [167, 255, 232, 43, 176]
abbrev dktX2_both_2 : List UInt8 := dkwX2_both_2 ++ []
def dkwX2_both_1 : List UInt8 := [19, 1, 47, 182, 1, 41, 153, 0, 20, 43, 180, 1, 33, 42, 182, 1, 44, 185, 0, 202, 2, 0, 87]
abbrev dktX2_both_1 : List UInt8 := dkwX2_both_1 ++ dktX2_both_2
def dkwX2_both_0 : List UInt8 := [187, 1, 28, 89, 4, 183, 1, 30, 76, 43, 180, 1, 33, 42, 182, 1, 44, 185, 0, 202, 2, 0, 87, 42]
abbrev dktX2_both_0 : List UInt8 := dkwX2_both_0 ++ dktX2_both_1
theorem dksX2_both_0 : cX2_both.data.toList.drop 0 = dktX2_both_0 := by decide +kernel
theorem dksX2_both_1 : cX2_both.data.toList.drop 24 = dktX2_both_1 := dk_seg dksX2_both_0 24 rfl rfl
theorem dksX2_both_2 : cX2_both.data.toList.drop 47 = dktX2_both_2 := dk_seg dksX2_both_1 23 rfl rfl
theorem dX2_both_0 : decode cX2_both 0 = .ok (.new 284, 3) := dk_187 1 28 (dk_at dksX2_both_0 0 rfl rfl)
theorem dX2_both_3 : decode cX2_both 3 = .ok (.dup, 1) := dk_89 (dk_at dksX2_both_0 3 rfl rfl)
theorem dX2_both_4 : decode cX2_both 4 = .ok (.iconst 1, 1) := dk_4 (dk_at dksX2_both_0 4 rfl rfl)
theorem dX2_both_5 : decode cX2_both 5 = .ok (.invokespecial 286, 3) := dk_183 1 30 (dk_at dksX2_both_0 5 rfl rfl)
theorem dX2_both_8 : decode cX2_both 8 = .ok (.astore_n 1, 1) := dk_76 (dk_at dksX2_both_0 8 rfl rfl)
theorem dX2_both_9 : decode cX2_both 9 = .ok (.aload_n 1, 1) := dk_43 (dk_at dksX2_both_0 9 rfl rfl)
theorem dX2_both_10 : decode cX2_both 10 = .ok (.getfield 289, 3) := dk_180 1 33 (dk_at dksX2_both_0 10 rfl rfl)
theorem dX2_both_13 : decode cX2_both 13 = .ok (.aload_n 0, 1) := dk_42 (dk_at dksX2_both_0 13 rfl rfl)
theorem dX2_both_14 : decode cX2_both 14 = .ok (.invokevirtual 300, 3) := dk_182 1 44 (dk_at dksX2_both_0 14 rfl rfl)
theorem dX2_both_17 : decode cX2_both 17 = .ok (.invokeinterface 202 2, 5) := by decide +kernel
theorem dX2_both_22 : decode cX2_both 22 = .ok (.pop, 1) := dk_87 (dk_at dksX2_both_0 22 rfl rfl)
theorem dX2_both_23 : decode cX2_both 23 = .ok (.aload_n 0, 1) := dk_42 (dk_at dksX2_both_0 23 rfl rfl)
theorem dX2_both_24 : decode cX2_both 24 = .ok (.ldc_w 303, 3) := dk_19 1 47 (dk_at dksX2_both_1 0 rfl rfl)
theorem dX2_both_27 : decode cX2_both 27 = .ok (.invokevirtual 297, 3) := dk_182 1 41 (dk_at dksX2_both_1 3 rfl rfl)
theorem dX2_both_30 : decode cX2_both 30 = .ok (.ifCond .eq 20, 3) := dk_153 0 20 (dk_at dksX2_both_1 6 rfl rfl)
theorem dX2_both_33 : decode cX2_both 33 = .ok (.aload_n 1, 1) := dk_43 (dk_at dksX2_both_1 9 rfl rfl)
theorem dX2_both_34 : decode cX2_both 34 = .ok (.getfield 289, 3) := dk_180 1 33 (dk_at dksX2_both_1 10 rfl rfl)
theorem dX2_both_37 : decode cX2_both 37 = .ok (.aload_n 0, 1) := dk_42 (dk_at dksX2_both_1 13 rfl rfl)
theorem dX2_both_38 : decode cX2_both 38 = .ok (.invokevirtual 300, 3) := dk_182 1 44 (dk_at dksX2_both_1 14 rfl rfl)
theorem dX2_both_41 : decode cX2_both 41 = .ok (.invokeinterface 202 2, 5) := by decide +kernel
theorem dX2_both_46 : decode cX2_both 46 = .ok (.pop, 1) := dk_87 (dk_at dksX2_both_1 22 rfl rfl)
theorem dX2_both_47 : decode cX2_both 47 = .ok (.goto (-24), 3) := dk_167 255 232 (dk_at dksX2_both_2 0 rfl rfl)
theorem dX2_both_50 : decode cX2_both 50 = .ok (.aload_n 1, 1) := dk_43 (dk_at dksX2_both_2 3 rfl rfl)
theorem dX2_both_51 : decode cX2_both 51 = .ok (.areturn, 1) := dk_176 (dk_at dksX2_both_2 4 rfl rfl)
abbrev cX2_fact : ByteArray := prog_14_method_28_code
def yX2_fact : MethodName := ⟨RX2, "fact", "()LBentRiver$Test;"⟩
def dkwX2_fact_7 : List UInt8 := [183, 1, 63, 176]
abbrev dktX2_fact_7 : List UInt8 := dkwX2_fact_7 ++ []
def dkwX2_fact_6 : List UInt8 := [182, 0, 47, 191, 42, 89, 180, 0, 36, 4, 96, 181, 0, 36, 187, 1, 61, 89, 43, 28, 42, 182, 0, 217]
abbrev dktX2_fact_6 : List UInt8 := dkwX2_fact_6 ++ dktX2_fact_7
def dkwX2_fact_5 : List UInt8 := [28, 16, 60, 159, 0, 25, 28, 16, 62, 159, 0, 19, 28, 16, 61, 159, 0, 13, 42, 4, 42, 180, 0, 36]
abbrev dktX2_fact_5 : List UInt8 := dkwX2_fact_5 ++ dktX2_fact_6
def dkwX2_fact_4 : List UInt8 := [182, 1, 41, 153, 0, 11, 187, 1, 58, 89, 183, 1, 60, 176, 42, 182, 0, 217, 76, 42, 182, 0, 43, 61]
abbrev dktX2_fact_4 : List UInt8 := dkwX2_fact_4 ++ dktX2_fact_5
def dkwX2_fact_3 : List UInt8 := [42, 182, 1, 44, 183, 1, 53, 76, 42, 89, 180, 0, 113, 4, 100, 181, 0, 113, 43, 176, 42, 19, 1, 56]
abbrev dktX2_fact_3 : List UInt8 := dkwX2_fact_3 ++ dktX2_fact_4
def dkwX2_fact_2 : List UInt8 := [43, 176, 42, 19, 1, 49, 182, 1, 41, 153, 0, 35, 42, 42, 180, 0, 61, 182, 0, 245, 187, 1, 51, 89]
abbrev dktX2_fact_2 : List UInt8 := dkwX2_fact_2 ++ dktX2_fact_3
def dkwX2_fact_1 : List UInt8 := [181, 0, 36, 42, 182, 0, 224, 76, 42, 16, 93, 182, 0, 127, 42, 89, 180, 0, 113, 4, 100, 181, 0, 113]
abbrev dktX2_fact_1 : List UInt8 := dkwX2_fact_1 ++ dktX2_fact_2
def dkwX2_fact_0 : List UInt8 := [42, 182, 0, 43, 16, 91, 160, 0, 44, 42, 42, 180, 0, 36, 182, 0, 245, 42, 89, 180, 0, 36, 4, 96]
abbrev dktX2_fact_0 : List UInt8 := dkwX2_fact_0 ++ dktX2_fact_1
theorem dksX2_fact_0 : cX2_fact.data.toList.drop 0 = dktX2_fact_0 := by decide +kernel
theorem dksX2_fact_1 : cX2_fact.data.toList.drop 24 = dktX2_fact_1 := dk_seg dksX2_fact_0 24 rfl rfl
theorem dksX2_fact_2 : cX2_fact.data.toList.drop 48 = dktX2_fact_2 := dk_seg dksX2_fact_1 24 rfl rfl
theorem dksX2_fact_3 : cX2_fact.data.toList.drop 72 = dktX2_fact_3 := dk_seg dksX2_fact_2 24 rfl rfl
theorem dksX2_fact_4 : cX2_fact.data.toList.drop 96 = dktX2_fact_4 := dk_seg dksX2_fact_3 24 rfl rfl
theorem dksX2_fact_5 : cX2_fact.data.toList.drop 120 = dktX2_fact_5 := dk_seg dksX2_fact_4 24 rfl rfl
theorem dksX2_fact_6 : cX2_fact.data.toList.drop 144 = dktX2_fact_6 := dk_seg dksX2_fact_5 24 rfl rfl
theorem dksX2_fact_7 : cX2_fact.data.toList.drop 168 = dktX2_fact_7 := dk_seg dksX2_fact_6 24 rfl rfl
theorem dX2_fact_0 : decode cX2_fact 0 = .ok (.aload_n 0, 1) := dk_42 (dk_at dksX2_fact_0 0 rfl rfl)
theorem dX2_fact_1 : decode cX2_fact 1 = .ok (.invokevirtual 43, 3) := dk_182 0 43 (dk_at dksX2_fact_0 1 rfl rfl)
theorem dX2_fact_4 : decode cX2_fact 4 = .ok (.bipush 91, 2) := dk_16 91 (dk_at dksX2_fact_0 4 rfl rfl)
theorem dX2_fact_6 : decode cX2_fact 6 = .ok (.if_icmp .ne 44, 3) := dk_160 0 44 (dk_at dksX2_fact_0 6 rfl rfl)
theorem dX2_fact_9 : decode cX2_fact 9 = .ok (.aload_n 0, 1) := dk_42 (dk_at dksX2_fact_0 9 rfl rfl)
theorem dX2_fact_10 : decode cX2_fact 10 = .ok (.aload_n 0, 1) := dk_42 (dk_at dksX2_fact_0 10 rfl rfl)
theorem dX2_fact_11 : decode cX2_fact 11 = .ok (.getfield 36, 3) := dk_180 0 36 (dk_at dksX2_fact_0 11 rfl rfl)
theorem dX2_fact_14 : decode cX2_fact 14 = .ok (.invokevirtual 245, 3) := dk_182 0 245 (dk_at dksX2_fact_0 14 rfl rfl)
theorem dX2_fact_17 : decode cX2_fact 17 = .ok (.aload_n 0, 1) := dk_42 (dk_at dksX2_fact_0 17 rfl rfl)
theorem dX2_fact_18 : decode cX2_fact 18 = .ok (.dup, 1) := dk_89 (dk_at dksX2_fact_0 18 rfl rfl)
theorem dX2_fact_19 : decode cX2_fact 19 = .ok (.getfield 36, 3) := dk_180 0 36 (dk_at dksX2_fact_0 19 rfl rfl)
theorem dX2_fact_22 : decode cX2_fact 22 = .ok (.iconst 1, 1) := dk_4 (dk_at dksX2_fact_0 22 rfl rfl)
theorem dX2_fact_23 : decode cX2_fact 23 = .ok (.iadd, 1) := dk_96 (dk_at dksX2_fact_0 23 rfl rfl)
theorem dX2_fact_24 : decode cX2_fact 24 = .ok (.putfield 36, 3) := dk_181 0 36 (dk_at dksX2_fact_1 0 rfl rfl)
theorem dX2_fact_27 : decode cX2_fact 27 = .ok (.aload_n 0, 1) := dk_42 (dk_at dksX2_fact_1 3 rfl rfl)
theorem dX2_fact_28 : decode cX2_fact 28 = .ok (.invokevirtual 224, 3) := dk_182 0 224 (dk_at dksX2_fact_1 4 rfl rfl)
theorem dX2_fact_31 : decode cX2_fact 31 = .ok (.astore_n 1, 1) := dk_76 (dk_at dksX2_fact_1 7 rfl rfl)
theorem dX2_fact_32 : decode cX2_fact 32 = .ok (.aload_n 0, 1) := dk_42 (dk_at dksX2_fact_1 8 rfl rfl)
theorem dX2_fact_33 : decode cX2_fact 33 = .ok (.bipush 93, 2) := dk_16 93 (dk_at dksX2_fact_1 9 rfl rfl)
theorem dX2_fact_35 : decode cX2_fact 35 = .ok (.invokevirtual 127, 3) := dk_182 0 127 (dk_at dksX2_fact_1 11 rfl rfl)
theorem dX2_fact_38 : decode cX2_fact 38 = .ok (.aload_n 0, 1) := dk_42 (dk_at dksX2_fact_1 14 rfl rfl)
theorem dX2_fact_39 : decode cX2_fact 39 = .ok (.dup, 1) := dk_89 (dk_at dksX2_fact_1 15 rfl rfl)
theorem dX2_fact_40 : decode cX2_fact 40 = .ok (.getfield 113, 3) := dk_180 0 113 (dk_at dksX2_fact_1 16 rfl rfl)
theorem dX2_fact_43 : decode cX2_fact 43 = .ok (.iconst 1, 1) := dk_4 (dk_at dksX2_fact_1 19 rfl rfl)
theorem dX2_fact_44 : decode cX2_fact 44 = .ok (.isub, 1) := dk_100 (dk_at dksX2_fact_1 20 rfl rfl)
theorem dX2_fact_45 : decode cX2_fact 45 = .ok (.putfield 113, 3) := dk_181 0 113 (dk_at dksX2_fact_1 21 rfl rfl)
theorem dX2_fact_48 : decode cX2_fact 48 = .ok (.aload_n 1, 1) := dk_43 (dk_at dksX2_fact_2 0 rfl rfl)
theorem dX2_fact_49 : decode cX2_fact 49 = .ok (.areturn, 1) := dk_176 (dk_at dksX2_fact_2 1 rfl rfl)
theorem dX2_fact_50 : decode cX2_fact 50 = .ok (.aload_n 0, 1) := dk_42 (dk_at dksX2_fact_2 2 rfl rfl)
theorem dX2_fact_51 : decode cX2_fact 51 = .ok (.ldc_w 305, 3) := dk_19 1 49 (dk_at dksX2_fact_2 3 rfl rfl)
theorem dX2_fact_54 : decode cX2_fact 54 = .ok (.invokevirtual 297, 3) := dk_182 1 41 (dk_at dksX2_fact_2 6 rfl rfl)
theorem dX2_fact_57 : decode cX2_fact 57 = .ok (.ifCond .eq 35, 3) := dk_153 0 35 (dk_at dksX2_fact_2 9 rfl rfl)
theorem dX2_fact_60 : decode cX2_fact 60 = .ok (.aload_n 0, 1) := dk_42 (dk_at dksX2_fact_2 12 rfl rfl)
theorem dX2_fact_61 : decode cX2_fact 61 = .ok (.aload_n 0, 1) := dk_42 (dk_at dksX2_fact_2 13 rfl rfl)
theorem dX2_fact_62 : decode cX2_fact 62 = .ok (.getfield 61, 3) := dk_180 0 61 (dk_at dksX2_fact_2 14 rfl rfl)
theorem dX2_fact_65 : decode cX2_fact 65 = .ok (.invokevirtual 245, 3) := dk_182 0 245 (dk_at dksX2_fact_2 17 rfl rfl)
theorem dX2_fact_68 : decode cX2_fact 68 = .ok (.new 307, 3) := dk_187 1 51 (dk_at dksX2_fact_2 20 rfl rfl)
theorem dX2_fact_71 : decode cX2_fact 71 = .ok (.dup, 1) := dk_89 (dk_at dksX2_fact_2 23 rfl rfl)
theorem dX2_fact_72 : decode cX2_fact 72 = .ok (.aload_n 0, 1) := dk_42 (dk_at dksX2_fact_3 0 rfl rfl)
theorem dX2_fact_73 : decode cX2_fact 73 = .ok (.invokevirtual 300, 3) := dk_182 1 44 (dk_at dksX2_fact_3 1 rfl rfl)
theorem dX2_fact_76 : decode cX2_fact 76 = .ok (.invokespecial 309, 3) := dk_183 1 53 (dk_at dksX2_fact_3 4 rfl rfl)
theorem dX2_fact_79 : decode cX2_fact 79 = .ok (.astore_n 1, 1) := dk_76 (dk_at dksX2_fact_3 7 rfl rfl)
theorem dX2_fact_80 : decode cX2_fact 80 = .ok (.aload_n 0, 1) := dk_42 (dk_at dksX2_fact_3 8 rfl rfl)
theorem dX2_fact_81 : decode cX2_fact 81 = .ok (.dup, 1) := dk_89 (dk_at dksX2_fact_3 9 rfl rfl)
theorem dX2_fact_82 : decode cX2_fact 82 = .ok (.getfield 113, 3) := dk_180 0 113 (dk_at dksX2_fact_3 10 rfl rfl)
theorem dX2_fact_85 : decode cX2_fact 85 = .ok (.iconst 1, 1) := dk_4 (dk_at dksX2_fact_3 13 rfl rfl)
theorem dX2_fact_86 : decode cX2_fact 86 = .ok (.isub, 1) := dk_100 (dk_at dksX2_fact_3 14 rfl rfl)
theorem dX2_fact_87 : decode cX2_fact 87 = .ok (.putfield 113, 3) := dk_181 0 113 (dk_at dksX2_fact_3 15 rfl rfl)
theorem dX2_fact_90 : decode cX2_fact 90 = .ok (.aload_n 1, 1) := dk_43 (dk_at dksX2_fact_3 18 rfl rfl)
theorem dX2_fact_91 : decode cX2_fact 91 = .ok (.areturn, 1) := dk_176 (dk_at dksX2_fact_3 19 rfl rfl)
theorem dX2_fact_92 : decode cX2_fact 92 = .ok (.aload_n 0, 1) := dk_42 (dk_at dksX2_fact_3 20 rfl rfl)
theorem dX2_fact_93 : decode cX2_fact 93 = .ok (.ldc_w 312, 3) := dk_19 1 56 (dk_at dksX2_fact_3 21 rfl rfl)
theorem dX2_fact_96 : decode cX2_fact 96 = .ok (.invokevirtual 297, 3) := dk_182 1 41 (dk_at dksX2_fact_4 0 rfl rfl)
theorem dX2_fact_99 : decode cX2_fact 99 = .ok (.ifCond .eq 11, 3) := dk_153 0 11 (dk_at dksX2_fact_4 3 rfl rfl)
theorem dX2_fact_102 : decode cX2_fact 102 = .ok (.new 314, 3) := dk_187 1 58 (dk_at dksX2_fact_4 6 rfl rfl)
theorem dX2_fact_105 : decode cX2_fact 105 = .ok (.dup, 1) := dk_89 (dk_at dksX2_fact_4 9 rfl rfl)
theorem dX2_fact_106 : decode cX2_fact 106 = .ok (.invokespecial 316, 3) := dk_183 1 60 (dk_at dksX2_fact_4 10 rfl rfl)
theorem dX2_fact_109 : decode cX2_fact 109 = .ok (.areturn, 1) := dk_176 (dk_at dksX2_fact_4 13 rfl rfl)
theorem dX2_fact_110 : decode cX2_fact 110 = .ok (.aload_n 0, 1) := dk_42 (dk_at dksX2_fact_4 14 rfl rfl)
theorem dX2_fact_111 : decode cX2_fact 111 = .ok (.invokevirtual 217, 3) := dk_182 0 217 (dk_at dksX2_fact_4 15 rfl rfl)
theorem dX2_fact_114 : decode cX2_fact 114 = .ok (.astore_n 1, 1) := dk_76 (dk_at dksX2_fact_4 18 rfl rfl)
theorem dX2_fact_115 : decode cX2_fact 115 = .ok (.aload_n 0, 1) := dk_42 (dk_at dksX2_fact_4 19 rfl rfl)
theorem dX2_fact_116 : decode cX2_fact 116 = .ok (.invokevirtual 43, 3) := dk_182 0 43 (dk_at dksX2_fact_4 20 rfl rfl)
theorem dX2_fact_119 : decode cX2_fact 119 = .ok (.istore_n 2, 1) := dk_61 (dk_at dksX2_fact_4 23 rfl rfl)
theorem dX2_fact_120 : decode cX2_fact 120 = .ok (.iload_n 2, 1) := dk_28 (dk_at dksX2_fact_5 0 rfl rfl)
theorem dX2_fact_121 : decode cX2_fact 121 = .ok (.bipush 60, 2) := dk_16 60 (dk_at dksX2_fact_5 1 rfl rfl)
theorem dX2_fact_123 : decode cX2_fact 123 = .ok (.if_icmp .eq 25, 3) := dk_159 0 25 (dk_at dksX2_fact_5 3 rfl rfl)
theorem dX2_fact_126 : decode cX2_fact 126 = .ok (.iload_n 2, 1) := dk_28 (dk_at dksX2_fact_5 6 rfl rfl)
theorem dX2_fact_127 : decode cX2_fact 127 = .ok (.bipush 62, 2) := dk_16 62 (dk_at dksX2_fact_5 7 rfl rfl)
theorem dX2_fact_129 : decode cX2_fact 129 = .ok (.if_icmp .eq 19, 3) := dk_159 0 19 (dk_at dksX2_fact_5 9 rfl rfl)
theorem dX2_fact_132 : decode cX2_fact 132 = .ok (.iload_n 2, 1) := dk_28 (dk_at dksX2_fact_5 12 rfl rfl)
theorem dX2_fact_133 : decode cX2_fact 133 = .ok (.bipush 61, 2) := dk_16 61 (dk_at dksX2_fact_5 13 rfl rfl)
theorem dX2_fact_135 : decode cX2_fact 135 = .ok (.if_icmp .eq 13, 3) := dk_159 0 13 (dk_at dksX2_fact_5 15 rfl rfl)
theorem dX2_fact_138 : decode cX2_fact 138 = .ok (.aload_n 0, 1) := dk_42 (dk_at dksX2_fact_5 18 rfl rfl)
theorem dX2_fact_139 : decode cX2_fact 139 = .ok (.iconst 1, 1) := dk_4 (dk_at dksX2_fact_5 19 rfl rfl)
theorem dX2_fact_140 : decode cX2_fact 140 = .ok (.aload_n 0, 1) := dk_42 (dk_at dksX2_fact_5 20 rfl rfl)
theorem dX2_fact_141 : decode cX2_fact 141 = .ok (.getfield 36, 3) := dk_180 0 36 (dk_at dksX2_fact_5 21 rfl rfl)
theorem dX2_fact_144 : decode cX2_fact 144 = .ok (.invokevirtual 47, 3) := dk_182 0 47 (dk_at dksX2_fact_6 0 rfl rfl)
theorem dX2_fact_147 : decode cX2_fact 147 = .ok (.athrow, 1) := dk_191 (dk_at dksX2_fact_6 3 rfl rfl)
theorem dX2_fact_148 : decode cX2_fact 148 = .ok (.aload_n 0, 1) := dk_42 (dk_at dksX2_fact_6 4 rfl rfl)
theorem dX2_fact_149 : decode cX2_fact 149 = .ok (.dup, 1) := dk_89 (dk_at dksX2_fact_6 5 rfl rfl)
theorem dX2_fact_150 : decode cX2_fact 150 = .ok (.getfield 36, 3) := dk_180 0 36 (dk_at dksX2_fact_6 6 rfl rfl)
theorem dX2_fact_153 : decode cX2_fact 153 = .ok (.iconst 1, 1) := dk_4 (dk_at dksX2_fact_6 9 rfl rfl)
theorem dX2_fact_154 : decode cX2_fact 154 = .ok (.iadd, 1) := dk_96 (dk_at dksX2_fact_6 10 rfl rfl)
theorem dX2_fact_155 : decode cX2_fact 155 = .ok (.putfield 36, 3) := dk_181 0 36 (dk_at dksX2_fact_6 11 rfl rfl)
theorem dX2_fact_158 : decode cX2_fact 158 = .ok (.new 317, 3) := dk_187 1 61 (dk_at dksX2_fact_6 14 rfl rfl)
theorem dX2_fact_161 : decode cX2_fact 161 = .ok (.dup, 1) := dk_89 (dk_at dksX2_fact_6 17 rfl rfl)
theorem dX2_fact_162 : decode cX2_fact 162 = .ok (.aload_n 1, 1) := dk_43 (dk_at dksX2_fact_6 18 rfl rfl)
theorem dX2_fact_163 : decode cX2_fact 163 = .ok (.iload_n 2, 1) := dk_28 (dk_at dksX2_fact_6 19 rfl rfl)
theorem dX2_fact_164 : decode cX2_fact 164 = .ok (.aload_n 0, 1) := dk_42 (dk_at dksX2_fact_6 20 rfl rfl)
theorem dX2_fact_165 : decode cX2_fact 165 = .ok (.invokevirtual 217, 3) := dk_182 0 217 (dk_at dksX2_fact_6 21 rfl rfl)
theorem dX2_fact_168 : decode cX2_fact 168 = .ok (.invokespecial 319, 3) := dk_183 1 63 (dk_at dksX2_fact_7 0 rfl rfl)
theorem dX2_fact_171 : decode cX2_fact 171 = .ok (.areturn, 1) := dk_176 (dk_at dksX2_fact_7 3 rfl rfl)
abbrev cX2_passes : ByteArray := prog_14_method_9_code
def yX2_passes : MethodName := ⟨RX2, "passes", "(Ljava/lang/String;)Z"⟩
def dkwX2_passes_1 : List UInt8 := [182, 0, 74, 153, 0, 5, 4, 172, 42, 28, 181, 0, 36, 3, 172]
abbrev dktX2_passes_1 : List UInt8 := dkwX2_passes_1 ++ []
def dkwX2_passes_0 : List UInt8 := [42, 180, 0, 36, 61, 42, 182, 0, 43, 184, 0, 51, 154, 0, 5, 3, 172, 42, 182, 0, 70, 43]
abbrev dktX2_passes_0 : List UInt8 := dkwX2_passes_0 ++ dktX2_passes_1
theorem dksX2_passes_0 : cX2_passes.data.toList.drop 0 = dktX2_passes_0 := by decide +kernel
theorem dksX2_passes_1 : cX2_passes.data.toList.drop 22 = dktX2_passes_1 := dk_seg dksX2_passes_0 22 rfl rfl
theorem dX2_passes_0 : decode cX2_passes 0 = .ok (.aload_n 0, 1) := dk_42 (dk_at dksX2_passes_0 0 rfl rfl)
theorem dX2_passes_1 : decode cX2_passes 1 = .ok (.getfield 36, 3) := dk_180 0 36 (dk_at dksX2_passes_0 1 rfl rfl)
theorem dX2_passes_4 : decode cX2_passes 4 = .ok (.istore_n 2, 1) := dk_61 (dk_at dksX2_passes_0 4 rfl rfl)
theorem dX2_passes_5 : decode cX2_passes 5 = .ok (.aload_n 0, 1) := dk_42 (dk_at dksX2_passes_0 5 rfl rfl)
theorem dX2_passes_6 : decode cX2_passes 6 = .ok (.invokevirtual 43, 3) := dk_182 0 43 (dk_at dksX2_passes_0 6 rfl rfl)
theorem dX2_passes_9 : decode cX2_passes 9 = .ok (.invokestatic 51, 3) := dk_184 0 51 (dk_at dksX2_passes_0 9 rfl rfl)
theorem dX2_passes_12 : decode cX2_passes 12 = .ok (.ifCond .ne 5, 3) := dk_154 0 5 (dk_at dksX2_passes_0 12 rfl rfl)
theorem dX2_passes_15 : decode cX2_passes 15 = .ok (.iconst 0, 1) := dk_3 (dk_at dksX2_passes_0 15 rfl rfl)
theorem dX2_passes_16 : decode cX2_passes 16 = .ok (.ireturn, 1) := dk_172 (dk_at dksX2_passes_0 16 rfl rfl)
theorem dX2_passes_17 : decode cX2_passes 17 = .ok (.aload_n 0, 1) := dk_42 (dk_at dksX2_passes_0 17 rfl rfl)
theorem dX2_passes_18 : decode cX2_passes 18 = .ok (.invokevirtual 70, 3) := dk_182 0 70 (dk_at dksX2_passes_0 18 rfl rfl)
theorem dX2_passes_21 : decode cX2_passes 21 = .ok (.aload_n 1, 1) := dk_43 (dk_at dksX2_passes_0 21 rfl rfl)
theorem dX2_passes_22 : decode cX2_passes 22 = .ok (.invokevirtual 74, 3) := dk_182 0 74 (dk_at dksX2_passes_1 0 rfl rfl)
theorem dX2_passes_25 : decode cX2_passes 25 = .ok (.ifCond .eq 5, 3) := dk_153 0 5 (dk_at dksX2_passes_1 3 rfl rfl)
theorem dX2_passes_28 : decode cX2_passes 28 = .ok (.iconst 1, 1) := dk_4 (dk_at dksX2_passes_1 6 rfl rfl)
theorem dX2_passes_29 : decode cX2_passes 29 = .ok (.ireturn, 1) := dk_172 (dk_at dksX2_passes_1 7 rfl rfl)
theorem dX2_passes_30 : decode cX2_passes 30 = .ok (.aload_n 0, 1) := dk_42 (dk_at dksX2_passes_1 8 rfl rfl)
theorem dX2_passes_31 : decode cX2_passes 31 = .ok (.iload_n 2, 1) := dk_28 (dk_at dksX2_passes_1 9 rfl rfl)
theorem dX2_passes_32 : decode cX2_passes 32 = .ok (.putfield 36, 3) := dk_181 0 36 (dk_at dksX2_passes_1 10 rfl rfl)
theorem dX2_passes_35 : decode cX2_passes 35 = .ok (.iconst 0, 1) := dk_3 (dk_at dksX2_passes_1 13 rfl rfl)
theorem dX2_passes_36 : decode cX2_passes 36 = .ok (.ireturn, 1) := dk_172 (dk_at dksX2_passes_1 14 rfl rfl)
abbrev cX2_question : ByteArray := prog_14_method_30_code
def yX2_question : MethodName := ⟨RX2, "question", "(I)LBentRiver$Question;"⟩
def dkwX2_question_4 : List UInt8 := [42, 180, 0, 36, 182, 0, 47, 191, 45, 176]
abbrev dktX2_question_4 : List UInt8 := dkwX2_question_4 ++ []
def dkwX2_question_3 : List UInt8 := [187, 1, 74, 89, 28, 1, 42, 182, 0, 217, 183, 1, 76, 78, 42, 182, 0, 43, 2, 159, 0, 13, 42, 4]
abbrev dktX2_question_3 : List UInt8 := dkwX2_question_3 ++ dktX2_question_4
def dkwX2_question_2 : List UInt8 := [191, 28, 6, 162, 0, 19, 187, 1, 74, 89, 28, 42, 182, 0, 224, 1, 183, 1, 76, 167, 0, 16]
abbrev dktX2_question_2 : List UInt8 := dkwX2_question_2 ++ dktX2_question_3
def dkwX2_question_1 : List UInt8 := [182, 0, 70, 178, 1, 71, 184, 0, 82, 61, 28, 2, 160, 0, 13, 42, 4, 42, 180, 0, 61, 182, 0, 47]
abbrev dktX2_question_1 : List UInt8 := dkwX2_question_1 ++ dktX2_question_2
def dkwX2_question_0 : List UInt8 := [42, 27, 181, 0, 29, 42, 3, 181, 0, 36, 42, 3, 181, 0, 113, 42, 19, 1, 17, 181, 0, 214, 42]
abbrev dktX2_question_0 : List UInt8 := dkwX2_question_0 ++ dktX2_question_1
theorem dksX2_question_0 : cX2_question.data.toList.drop 0 = dktX2_question_0 := by decide +kernel
theorem dksX2_question_1 : cX2_question.data.toList.drop 23 = dktX2_question_1 := dk_seg dksX2_question_0 23 rfl rfl
theorem dksX2_question_2 : cX2_question.data.toList.drop 47 = dktX2_question_2 := dk_seg dksX2_question_1 24 rfl rfl
theorem dksX2_question_3 : cX2_question.data.toList.drop 69 = dktX2_question_3 := dk_seg dksX2_question_2 22 rfl rfl
theorem dksX2_question_4 : cX2_question.data.toList.drop 93 = dktX2_question_4 := dk_seg dksX2_question_3 24 rfl rfl
theorem dX2_question_0 : decode cX2_question 0 = .ok (.aload_n 0, 1) := dk_42 (dk_at dksX2_question_0 0 rfl rfl)
theorem dX2_question_1 : decode cX2_question 1 = .ok (.iload_n 1, 1) := dk_27 (dk_at dksX2_question_0 1 rfl rfl)
theorem dX2_question_2 : decode cX2_question 2 = .ok (.putfield 29, 3) := dk_181 0 29 (dk_at dksX2_question_0 2 rfl rfl)
theorem dX2_question_5 : decode cX2_question 5 = .ok (.aload_n 0, 1) := dk_42 (dk_at dksX2_question_0 5 rfl rfl)
theorem dX2_question_6 : decode cX2_question 6 = .ok (.iconst 0, 1) := dk_3 (dk_at dksX2_question_0 6 rfl rfl)
theorem dX2_question_7 : decode cX2_question 7 = .ok (.putfield 36, 3) := dk_181 0 36 (dk_at dksX2_question_0 7 rfl rfl)
theorem dX2_question_10 : decode cX2_question 10 = .ok (.aload_n 0, 1) := dk_42 (dk_at dksX2_question_0 10 rfl rfl)
theorem dX2_question_11 : decode cX2_question 11 = .ok (.iconst 0, 1) := dk_3 (dk_at dksX2_question_0 11 rfl rfl)
theorem dX2_question_12 : decode cX2_question 12 = .ok (.putfield 113, 3) := dk_181 0 113 (dk_at dksX2_question_0 12 rfl rfl)
theorem dX2_question_15 : decode cX2_question 15 = .ok (.aload_n 0, 1) := dk_42 (dk_at dksX2_question_0 15 rfl rfl)
theorem dX2_question_16 : decode cX2_question 16 = .ok (.ldc_w 273, 3) := dk_19 1 17 (dk_at dksX2_question_0 16 rfl rfl)
theorem dX2_question_19 : decode cX2_question 19 = .ok (.putfield 214, 3) := dk_181 0 214 (dk_at dksX2_question_0 19 rfl rfl)
theorem dX2_question_22 : decode cX2_question 22 = .ok (.aload_n 0, 1) := dk_42 (dk_at dksX2_question_0 22 rfl rfl)
theorem dX2_question_23 : decode cX2_question 23 = .ok (.invokevirtual 70, 3) := dk_182 0 70 (dk_at dksX2_question_1 0 rfl rfl)
theorem dX2_question_26 : decode cX2_question 26 = .ok (.getstatic 327, 3) := dk_178 1 71 (dk_at dksX2_question_1 3 rfl rfl)
theorem dX2_question_29 : decode cX2_question 29 = .ok (.invokestatic 82, 3) := dk_184 0 82 (dk_at dksX2_question_1 6 rfl rfl)
theorem dX2_question_32 : decode cX2_question 32 = .ok (.istore_n 2, 1) := dk_61 (dk_at dksX2_question_1 9 rfl rfl)
theorem dX2_question_33 : decode cX2_question 33 = .ok (.iload_n 2, 1) := dk_28 (dk_at dksX2_question_1 10 rfl rfl)
theorem dX2_question_34 : decode cX2_question 34 = .ok (.iconst (-1), 1) := dk_2 (dk_at dksX2_question_1 11 rfl rfl)
theorem dX2_question_35 : decode cX2_question 35 = .ok (.if_icmp .ne 13, 3) := dk_160 0 13 (dk_at dksX2_question_1 12 rfl rfl)
theorem dX2_question_38 : decode cX2_question 38 = .ok (.aload_n 0, 1) := dk_42 (dk_at dksX2_question_1 15 rfl rfl)
theorem dX2_question_39 : decode cX2_question 39 = .ok (.iconst 1, 1) := dk_4 (dk_at dksX2_question_1 16 rfl rfl)
theorem dX2_question_40 : decode cX2_question 40 = .ok (.aload_n 0, 1) := dk_42 (dk_at dksX2_question_1 17 rfl rfl)
theorem dX2_question_41 : decode cX2_question 41 = .ok (.getfield 61, 3) := dk_180 0 61 (dk_at dksX2_question_1 18 rfl rfl)
theorem dX2_question_44 : decode cX2_question 44 = .ok (.invokevirtual 47, 3) := dk_182 0 47 (dk_at dksX2_question_1 21 rfl rfl)
theorem dX2_question_47 : decode cX2_question 47 = .ok (.athrow, 1) := dk_191 (dk_at dksX2_question_2 0 rfl rfl)
theorem dX2_question_48 : decode cX2_question 48 = .ok (.iload_n 2, 1) := dk_28 (dk_at dksX2_question_2 1 rfl rfl)
theorem dX2_question_49 : decode cX2_question 49 = .ok (.iconst 3, 1) := dk_6 (dk_at dksX2_question_2 2 rfl rfl)
theorem dX2_question_50 : decode cX2_question 50 = .ok (.if_icmp .ge 19, 3) := dk_162 0 19 (dk_at dksX2_question_2 3 rfl rfl)
theorem dX2_question_53 : decode cX2_question 53 = .ok (.new 330, 3) := dk_187 1 74 (dk_at dksX2_question_2 6 rfl rfl)
theorem dX2_question_56 : decode cX2_question 56 = .ok (.dup, 1) := dk_89 (dk_at dksX2_question_2 9 rfl rfl)
theorem dX2_question_57 : decode cX2_question 57 = .ok (.iload_n 2, 1) := dk_28 (dk_at dksX2_question_2 10 rfl rfl)
theorem dX2_question_58 : decode cX2_question 58 = .ok (.aload_n 0, 1) := dk_42 (dk_at dksX2_question_2 11 rfl rfl)
theorem dX2_question_59 : decode cX2_question 59 = .ok (.invokevirtual 224, 3) := dk_182 0 224 (dk_at dksX2_question_2 12 rfl rfl)
theorem dX2_question_62 : decode cX2_question 62 = .ok (.aconst_null, 1) := dk_1 (dk_at dksX2_question_2 15 rfl rfl)
theorem dX2_question_63 : decode cX2_question 63 = .ok (.invokespecial 332, 3) := dk_183 1 76 (dk_at dksX2_question_2 16 rfl rfl)
theorem dX2_question_66 : decode cX2_question 66 = .ok (.goto 16, 3) := dk_167 0 16 (dk_at dksX2_question_2 19 rfl rfl)
theorem dX2_question_69 : decode cX2_question 69 = .ok (.new 330, 3) := dk_187 1 74 (dk_at dksX2_question_3 0 rfl rfl)
theorem dX2_question_72 : decode cX2_question 72 = .ok (.dup, 1) := dk_89 (dk_at dksX2_question_3 3 rfl rfl)
theorem dX2_question_73 : decode cX2_question 73 = .ok (.iload_n 2, 1) := dk_28 (dk_at dksX2_question_3 4 rfl rfl)
theorem dX2_question_74 : decode cX2_question 74 = .ok (.aconst_null, 1) := dk_1 (dk_at dksX2_question_3 5 rfl rfl)
theorem dX2_question_75 : decode cX2_question 75 = .ok (.aload_n 0, 1) := dk_42 (dk_at dksX2_question_3 6 rfl rfl)
theorem dX2_question_76 : decode cX2_question 76 = .ok (.invokevirtual 217, 3) := dk_182 0 217 (dk_at dksX2_question_3 7 rfl rfl)
theorem dX2_question_79 : decode cX2_question 79 = .ok (.invokespecial 332, 3) := dk_183 1 76 (dk_at dksX2_question_3 10 rfl rfl)
theorem dX2_question_82 : decode cX2_question 82 = .ok (.astore_n 3, 1) := dk_78 (dk_at dksX2_question_3 13 rfl rfl)
theorem dX2_question_83 : decode cX2_question 83 = .ok (.aload_n 0, 1) := dk_42 (dk_at dksX2_question_3 14 rfl rfl)
theorem dX2_question_84 : decode cX2_question 84 = .ok (.invokevirtual 43, 3) := dk_182 0 43 (dk_at dksX2_question_3 15 rfl rfl)
theorem dX2_question_87 : decode cX2_question 87 = .ok (.iconst (-1), 1) := dk_2 (dk_at dksX2_question_3 18 rfl rfl)
theorem dX2_question_88 : decode cX2_question 88 = .ok (.if_icmp .eq 13, 3) := dk_159 0 13 (dk_at dksX2_question_3 19 rfl rfl)
theorem dX2_question_91 : decode cX2_question 91 = .ok (.aload_n 0, 1) := dk_42 (dk_at dksX2_question_3 22 rfl rfl)
theorem dX2_question_92 : decode cX2_question 92 = .ok (.iconst 1, 1) := dk_4 (dk_at dksX2_question_3 23 rfl rfl)
theorem dX2_question_93 : decode cX2_question 93 = .ok (.aload_n 0, 1) := dk_42 (dk_at dksX2_question_4 0 rfl rfl)
theorem dX2_question_94 : decode cX2_question 94 = .ok (.getfield 36, 3) := dk_180 0 36 (dk_at dksX2_question_4 1 rfl rfl)
theorem dX2_question_97 : decode cX2_question 97 = .ok (.invokevirtual 47, 3) := dk_182 0 47 (dk_at dksX2_question_4 4 rfl rfl)
theorem dX2_question_100 : decode cX2_question 100 = .ok (.athrow, 1) := dk_191 (dk_at dksX2_question_4 7 rfl rfl)
theorem dX2_question_101 : decode cX2_question 101 = .ok (.aload_n 3, 1) := dk_45 (dk_at dksX2_question_4 8 rfl rfl)
theorem dX2_question_102 : decode cX2_question 102 = .ok (.areturn, 1) := dk_176 (dk_at dksX2_question_4 9 rfl rfl)
theorem q179 : (Jvm.Cond.initialized "BentRiver$Reader") ∈ lw_all := lw_g (lw_at lw_m1 6 rfl) rfl
theorem q258 : (Jvm.Cond.fieldLinkNest "BentRiver$Reader" (131 : Nat) "BentRiver$Valley" "statements" "I" "BentRiver") ∈ lw_tbl := lw_at lw_m1 85 rfl
theorem q259 : (Jvm.Cond.fieldLinkNest "BentRiver$Reader" (104 : Nat) "BentRiver$Valley" "columns" "I" "BentRiver") ∈ lw_tbl := lw_at lw_m1 86 rfl
theorem q262 : (Jvm.Cond.fieldLinkNest "BentRiver$Reader" (109 : Nat) "BentRiver$Valley" "rows" "I" "BentRiver") ∈ lw_tbl := lw_at lw_m1 89 rfl
theorem q265 : (Jvm.Cond.fieldLinkNest "BentRiver$Reader" (125 : Nat) "BentRiver$Valley" "reach" "I" "BentRiver") ∈ lw_tbl := lw_at lw_m1 92 rfl
theorem q267 : (Jvm.Cond.fieldLinkNest "BentRiver$Reader" (228 : Nat) "BentRiver$Valley" "spate" "I" "BentRiver") ∈ lw_tbl := lw_at lw_m1 94 rfl
theorem q271 : (Jvm.Cond.fieldLinkNest "BentRiver$Reader" (160 : Nat) "BentRiver$Valley" "runs" "[I" "BentRiver") ∈ lw_tbl := lw_at lw_m1 98 rfl
theorem q274 : (Jvm.Cond.fieldLinkNest "BentRiver$Reader" (166 : Nat) "BentRiver$Valley" "soil" "[[I" "BentRiver") ∈ lw_tbl := lw_at lw_m1 101 rfl
theorem q278 : (Jvm.Cond.fieldLinkNest "BentRiver$Reader" (169 : Nat) "BentRiver$Valley" "willows" "[[I" "BentRiver") ∈ lw_tbl := lw_at lw_m1 105 rfl
theorem q281 : (Jvm.Cond.fieldLinkNest "BentRiver$Reader" (172 : Nat) "BentRiver$Valley" "lords" "Ljava/util/List;" "BentRiver") ∈ lw_tbl := lw_at lw_m1 108 rfl
theorem q283 : (Jvm.Cond.fieldLinkNest "BentRiver$Reader" (211 : Nat) "BentRiver$Valley" "eats" "LBentRiver$Value;" "BentRiver") ∈ lw_tbl := lw_at lw_m1 110 rfl
theorem q284 : (Jvm.Cond.fieldLinkNest "BentRiver$Reader" (221 : Nat) "BentRiver$Valley" "bend" "LBentRiver$Test;" "BentRiver") ∈ lw_tbl := lw_at lw_m1 111 rfl
theorem q310 : (Jvm.Cond.instantiable "BentRiver$Reader" (8 : Nat)) ∈ lw_all := lw_g (lw_at lw_m1 137 rfl) rfl
theorem q312 : (Jvm.Cond.instanceMethod ({ cls := "BentRiver$Reader", name := "<init>", desc := "(LBentRiver;)V" } : Jvm.MethodName)) ∈ lw_all := lw_g (lw_at lw_m1 139 rfl) rfl
theorem q313 : (Jvm.Cond.code ({ cls := "BentRiver$Reader", name := "<init>", desc := "(LBentRiver;)V" } : Jvm.MethodName) prog_14_method_1_code (2 : Nat) (Option.none : Option Jvm.ClassFile.FieldType)) ∈ lw_all := lw_g (lw_at lw_m1 140 rfl) rfl
theorem q314 : (Jvm.Cond.methodLink "BentRiver$Reader" (9 : Nat) ({ cls := "java/lang/Object", name := "<init>", desc := "()V" } : Jvm.MethodName)) ∈ lw_all := lw_g (lw_at lw_m1 141 rfl) rfl
theorem q315 : (Jvm.Cond.classLink "BentRiver$Reader" (15 : Nat) "BentRiver$Fault") ∈ lw_all := lw_g (lw_at lw_m1 142 rfl) rfl
theorem q354 : (Jvm.Cond.methodLink "BentRiver$Reader" (17 : Nat) ({ cls := "BentRiver$Fault", name := "<init>", desc := "()V" } : Jvm.MethodName)) ∈ lw_all := lw_g (lw_at lw_m1 181 rfl) rfl
theorem q366 : (Jvm.Cond.fieldLinkNest "BentRiver$Reader" (22 : Nat) "BentRiver$Fault" "kind" "I" "BentRiver") ∈ lw_tbl := lw_at lw_m1 193 rfl
theorem q368 : (Jvm.Cond.fieldLinkNest "BentRiver$Reader" (26 : Nat) "BentRiver$Fault" "place" "I" "BentRiver") ∈ lw_tbl := lw_at lw_m1 195 rfl
theorem q388 : (Jvm.Cond.fieldLink "BentRiver$Reader" (18 : Nat) "BentRiver$Reader" "fault" "LBentRiver$Fault;") ∈ lw_all := lw_g (lw_at lw_m1 215 rfl) rfl
theorem q389 : (Jvm.Cond.fieldLink "BentRiver$Reader" (29 : Nat) "BentRiver$Reader" "size" "I") ∈ lw_all := lw_g (lw_at lw_m1 216 rfl) rfl
theorem q390 : (Jvm.Cond.fieldLink "BentRiver$Reader" (36 : Nat) "BentRiver$Reader" "at" "I") ∈ lw_all := lw_g (lw_at lw_m1 217 rfl) rfl
theorem q391 : (Jvm.Cond.fieldLink "BentRiver$Reader" (61 : Nat) "BentRiver$Reader" "from" "I") ∈ lw_all := lw_g (lw_at lw_m1 218 rfl) rfl
theorem q392 : (Jvm.Cond.fieldLink "BentRiver$Reader" (113 : Nat) "BentRiver$Reader" "open" "I") ∈ lw_all := lw_g (lw_at lw_m1 219 rfl) rfl
theorem q393 : (Jvm.Cond.fieldLink "BentRiver$Reader" (214 : Nat) "BentRiver$Reader" "context" "I") ∈ lw_all := lw_g (lw_at lw_m1 220 rfl) rfl
theorem q394 : (Jvm.Cond.fieldLink "BentRiver$Reader" (100 : Nat) "BentRiver$Reader" "to" "LBentRiver$Valley;") ∈ lw_all := lw_g (lw_at lw_m1 221 rfl) rfl
theorem q395 : (Jvm.Cond.fieldLink "BentRiver$Reader" (3 : Nat) "BentRiver$Reader" "this$0" "LBentRiver;") ∈ lw_all := lw_g (lw_at lw_m1 222 rfl) rfl
theorem q396 : (Jvm.Cond.laysFinal "BentRiver$Reader" "BentRiver$Reader" "fault" "LBentRiver$Fault;") ∈ lw_all := lw_g (lw_at lw_m1 223 rfl) rfl
theorem q397 : (Jvm.Cond.soleField "BentRiver$Reader" "fault") ∈ lw_all := lw_g (lw_at lw_m1 224 rfl) rfl
theorem q398 : (Jvm.Cond.lays "BentRiver$Reader" "BentRiver$Reader" "size" "I") ∈ lw_all := lw_g (lw_at lw_m1 225 rfl) rfl
theorem q399 : (Jvm.Cond.soleField "BentRiver$Reader" "size") ∈ lw_all := lw_g (lw_at lw_m1 226 rfl) rfl
theorem q400 : (Jvm.Cond.lays "BentRiver$Reader" "BentRiver$Reader" "at" "I") ∈ lw_all := lw_g (lw_at lw_m1 227 rfl) rfl
theorem q401 : (Jvm.Cond.soleField "BentRiver$Reader" "at") ∈ lw_all := lw_g (lw_at lw_m1 228 rfl) rfl
theorem q402 : (Jvm.Cond.lays "BentRiver$Reader" "BentRiver$Reader" "from" "I") ∈ lw_all := lw_g (lw_at lw_m1 229 rfl) rfl
theorem q403 : (Jvm.Cond.soleField "BentRiver$Reader" "from") ∈ lw_all := lw_g (lw_at lw_m1 230 rfl) rfl
theorem q404 : (Jvm.Cond.lays "BentRiver$Reader" "BentRiver$Reader" "open" "I") ∈ lw_all := lw_g (lw_at lw_m1 231 rfl) rfl
theorem q405 : (Jvm.Cond.soleField "BentRiver$Reader" "open") ∈ lw_all := lw_g (lw_at lw_m1 232 rfl) rfl
theorem q406 : (Jvm.Cond.lays "BentRiver$Reader" "BentRiver$Reader" "context" "I") ∈ lw_all := lw_g (lw_at lw_m1 233 rfl) rfl
theorem q407 : (Jvm.Cond.soleField "BentRiver$Reader" "context") ∈ lw_all := lw_g (lw_at lw_m1 234 rfl) rfl
theorem q408 : (Jvm.Cond.lays "BentRiver$Reader" "BentRiver$Reader" "to" "LBentRiver$Valley;") ∈ lw_all := lw_g (lw_at lw_m1 235 rfl) rfl
theorem q409 : (Jvm.Cond.soleField "BentRiver$Reader" "to") ∈ lw_all := lw_g (lw_at lw_m1 236 rfl) rfl
theorem q410 : (Jvm.Cond.laysFinal "BentRiver$Reader" "BentRiver$Reader" "this$0" "LBentRiver;") ∈ lw_all := lw_g (lw_at lw_m1 237 rfl) rfl
theorem q411 : (Jvm.Cond.soleField "BentRiver$Reader" "this$0") ∈ lw_all := lw_g (lw_at lw_m1 238 rfl) rfl
theorem q412 : (Jvm.Cond.superclass "BentRiver$Reader" "java/lang/Object") ∈ lw_all := lw_g (lw_at lw_m1 239 rfl) rfl
theorem q485 : (Jvm.Cond.fieldLinkNest "BentRiver$Reader" (32 : Nat) "BentRiver" "tape" "[B" "BentRiver") ∈ lw_tbl := lw_at lw_m2 72 rfl
theorem q588 : (Jvm.Cond.instanceMethod ({ cls := "BentRiver$Reader", name := "all", desc := "(I)LBentRiver$Valley;" } : Jvm.MethodName)) ∈ lw_all := lw_g (lw_at lw_m2 175 rfl) rfl
theorem q589 : (Jvm.Cond.selects "BentRiver$Reader" ({ cls := "BentRiver$Reader", name := "all", desc := "(I)LBentRiver$Valley;" } : Jvm.MethodName) ({ cls := "BentRiver$Reader", name := "all", desc := "(I)LBentRiver$Valley;" } : Jvm.MethodName)) ∈ lw_all := lw_g (lw_at lw_m2 176 rfl) rfl
theorem q590 : (Jvm.Cond.code ({ cls := "BentRiver$Reader", name := "all", desc := "(I)LBentRiver$Valley;" } : Jvm.MethodName) prog_14_method_16_code (3 : Nat) (Option.some (Jvm.ClassFile.FieldType.object "BentRiver$Valley"))) ∈ lw_all := lw_g (lw_at lw_m2 177 rfl) rfl
theorem q591 : (Jvm.Cond.classLink "BentRiver$Reader" (105 : Nat) "BentRiver$Valley") ∈ lw_all := lw_g (lw_at lw_m2 178 rfl) rfl
theorem q592 : (Jvm.Cond.methodLink "BentRiver$Reader" (112 : Nat) ({ cls := "BentRiver$Valley", name := "<init>", desc := "()V" } : Jvm.MethodName)) ∈ lw_all := lw_g (lw_at lw_m2 179 rfl) rfl
theorem q593 : (Jvm.Cond.stringRef "BentRiver$Reader" (116 : Nat) "valley") ∈ lw_tbl := lw_at lw_m2 180 rfl
theorem q594 : (Jvm.Cond.methodLink "BentRiver$Reader" (93 : Nat) ({ cls := "BentRiver$Reader", name := "word", desc := "(Ljava/lang/String;)V" } : Jvm.MethodName)) ∈ lw_all := lw_g (lw_at lw_m2 181 rfl) rfl
theorem q595 : (Jvm.Cond.privateMethod ({ cls := "BentRiver$Reader", name := "word", desc := "(Ljava/lang/String;)V" } : Jvm.MethodName)) ∈ lw_tbl := lw_at lw_m2 182 rfl
theorem q596 : (Jvm.Cond.instanceMethod ({ cls := "BentRiver$Reader", name := "word", desc := "(Ljava/lang/String;)V" } : Jvm.MethodName)) ∈ lw_all := lw_g (lw_at lw_m2 183 rfl) rfl
theorem q597 : (Jvm.Cond.code ({ cls := "BentRiver$Reader", name := "word", desc := "(Ljava/lang/String;)V" } : Jvm.MethodName) prog_14_method_8_code (2 : Nat) (Option.none : Option Jvm.ClassFile.FieldType)) ∈ lw_all := lw_g (lw_at lw_m2 184 rfl) rfl
theorem q598 : (Jvm.Cond.methodLink "BentRiver$Reader" (70 : Nat) ({ cls := "BentRiver$Reader", name := "word", desc := "()Ljava/lang/String;" } : Jvm.MethodName)) ∈ lw_all := lw_g (lw_at lw_m2 185 rfl) rfl
theorem q599 : (Jvm.Cond.privateMethod ({ cls := "BentRiver$Reader", name := "word", desc := "()Ljava/lang/String;" } : Jvm.MethodName)) ∈ lw_tbl := lw_at lw_m2 186 rfl
theorem q600 : (Jvm.Cond.instanceMethod ({ cls := "BentRiver$Reader", name := "word", desc := "()Ljava/lang/String;" } : Jvm.MethodName)) ∈ lw_all := lw_g (lw_at lw_m2 187 rfl) rfl
theorem q601 : (Jvm.Cond.code ({ cls := "BentRiver$Reader", name := "word", desc := "()Ljava/lang/String;" } : Jvm.MethodName) prog_14_method_7_code (3 : Nat) (Option.some (Jvm.ClassFile.FieldType.object "java/lang/String"))) ∈ lw_all := lw_g (lw_at lw_m2 188 rfl) rfl
theorem q602 : (Jvm.Cond.methodLink "BentRiver$Reader" (43 : Nat) ({ cls := "BentRiver$Reader", name := "here", desc := "()I" } : Jvm.MethodName)) ∈ lw_all := lw_g (lw_at lw_m2 189 rfl) rfl
theorem q603 : (Jvm.Cond.privateMethod ({ cls := "BentRiver$Reader", name := "here", desc := "()I" } : Jvm.MethodName)) ∈ lw_tbl := lw_at lw_m2 190 rfl
theorem q604 : (Jvm.Cond.instanceMethod ({ cls := "BentRiver$Reader", name := "here", desc := "()I" } : Jvm.MethodName)) ∈ lw_all := lw_g (lw_at lw_m2 191 rfl) rfl
theorem q605 : (Jvm.Cond.code ({ cls := "BentRiver$Reader", name := "here", desc := "()I" } : Jvm.MethodName) prog_14_method_4_code (1 : Nat) (Option.some Jvm.ClassFile.FieldType.int)) ∈ lw_all := lw_g (lw_at lw_m2 192 rfl) rfl
theorem q606 : (Jvm.Cond.methodLink "BentRiver$Reader" (39 : Nat) ({ cls := "BentRiver$Reader", name := "byteAt", desc := "(I)I" } : Jvm.MethodName)) ∈ lw_all := lw_g (lw_at lw_m2 193 rfl) rfl
theorem q607 : (Jvm.Cond.privateMethod ({ cls := "BentRiver$Reader", name := "byteAt", desc := "(I)I" } : Jvm.MethodName)) ∈ lw_tbl := lw_at lw_m2 194 rfl
theorem q608 : (Jvm.Cond.instanceMethod ({ cls := "BentRiver$Reader", name := "byteAt", desc := "(I)I" } : Jvm.MethodName)) ∈ lw_all := lw_g (lw_at lw_m2 195 rfl) rfl
theorem q609 : (Jvm.Cond.code ({ cls := "BentRiver$Reader", name := "byteAt", desc := "(I)I" } : Jvm.MethodName) prog_14_method_3_code (2 : Nat) (Option.some Jvm.ClassFile.FieldType.int)) ∈ lw_all := lw_g (lw_at lw_m2 196 rfl) rfl
theorem q610 : (Jvm.Cond.methodLinkNest "BentRiver$Reader" (51 : Nat) ({ cls := "BentRiver", name := "isLetter", desc := "(I)Z" } : Jvm.MethodName) "BentRiver") ∈ lw_tbl := lw_at lw_m2 197 rfl
theorem q613 : (Jvm.Cond.methodLink "BentRiver$Reader" (47 : Nat) ({ cls := "BentRiver$Reader", name := "wrong", desc := "(II)LBentRiver$Fault;" } : Jvm.MethodName)) ∈ lw_all := lw_g (lw_at lw_m2 200 rfl) rfl
theorem q614 : (Jvm.Cond.privateMethod ({ cls := "BentRiver$Reader", name := "wrong", desc := "(II)LBentRiver$Fault;" } : Jvm.MethodName)) ∈ lw_tbl := lw_at lw_m2 201 rfl
theorem q615 : (Jvm.Cond.instanceMethod ({ cls := "BentRiver$Reader", name := "wrong", desc := "(II)LBentRiver$Fault;" } : Jvm.MethodName)) ∈ lw_all := lw_g (lw_at lw_m2 202 rfl) rfl
theorem q616 : (Jvm.Cond.code ({ cls := "BentRiver$Reader", name := "wrong", desc := "(II)LBentRiver$Fault;" } : Jvm.MethodName) prog_14_method_2_code (3 : Nat) (Option.some (Jvm.ClassFile.FieldType.object "BentRiver$Fault"))) ∈ lw_all := lw_g (lw_at lw_m2 203 rfl) rfl
theorem q617 : (Jvm.Cond.methodLink "BentRiver$Reader" (58 : Nat) ({ cls := "BentRiver$Reader", name := "parted", desc := "()V" } : Jvm.MethodName)) ∈ lw_all := lw_g (lw_at lw_m2 204 rfl) rfl
theorem q618 : (Jvm.Cond.privateMethod ({ cls := "BentRiver$Reader", name := "parted", desc := "()V" } : Jvm.MethodName)) ∈ lw_tbl := lw_at lw_m2 205 rfl
theorem q619 : (Jvm.Cond.instanceMethod ({ cls := "BentRiver$Reader", name := "parted", desc := "()V" } : Jvm.MethodName)) ∈ lw_all := lw_g (lw_at lw_m2 206 rfl) rfl
theorem q620 : (Jvm.Cond.code ({ cls := "BentRiver$Reader", name := "parted", desc := "()V" } : Jvm.MethodName) prog_14_method_6_code (1 : Nat) (Option.none : Option Jvm.ClassFile.FieldType)) ∈ lw_all := lw_g (lw_at lw_m2 207 rfl) rfl
theorem q621 : (Jvm.Cond.methodLinkNest "BentRiver$Reader" (55 : Nat) ({ cls := "BentRiver", name := "isDigit", desc := "(I)Z" } : Jvm.MethodName) "BentRiver") ∈ lw_tbl := lw_at lw_m2 208 rfl
theorem q624 : (Jvm.Cond.methodLink "BentRiver$Reader" (64 : Nat) ({ cls := "java/lang/String", name := "valueOf", desc := "([C)Ljava/lang/String;" } : Jvm.MethodName)) ∈ lw_all := lw_g (lw_at lw_m2 211 rfl) rfl
theorem q702 : (Jvm.Cond.methodLink "BentRiver$Reader" (74 : Nat) ({ cls := "java/lang/String", name := "equals", desc := "(Ljava/lang/Object;)Z" } : Jvm.MethodName)) ∈ lw_all := lw_g (lw_at lw_m3 49 rfl) rfl
theorem q709 : (Jvm.Cond.methodLink "BentRiver$Reader" (96 : Nat) ({ cls := "BentRiver$Reader", name := "number", desc := "(II)I" } : Jvm.MethodName)) ∈ lw_all := lw_g (lw_at lw_m3 56 rfl) rfl
theorem q710 : (Jvm.Cond.privateMethod ({ cls := "BentRiver$Reader", name := "number", desc := "(II)I" } : Jvm.MethodName)) ∈ lw_tbl := lw_at lw_m3 57 rfl
theorem q711 : (Jvm.Cond.instanceMethod ({ cls := "BentRiver$Reader", name := "number", desc := "(II)I" } : Jvm.MethodName)) ∈ lw_all := lw_g (lw_at lw_m3 58 rfl) rfl
theorem q712 : (Jvm.Cond.code ({ cls := "BentRiver$Reader", name := "number", desc := "(II)I" } : Jvm.MethodName) prog_14_method_11_code (4 : Nat) (Option.some Jvm.ClassFile.FieldType.int)) ∈ lw_all := lw_g (lw_at lw_m3 59 rfl) rfl
theorem q713 : (Jvm.Cond.methodLinkNest "BentRiver$Reader" (89 : Nat) ({ cls := "BentRiver", name := "is", desc := "(III)Z" } : Jvm.MethodName) "BentRiver") ∈ lw_tbl := lw_at lw_m3 60 rfl
theorem q716 : (Jvm.Cond.stringRef "BentRiver$Reader" (118 : Nat) "by") ∈ lw_tbl := lw_at lw_m3 63 rfl
theorem q717 : (Jvm.Cond.methodLink "BentRiver$Reader" (120 : Nat) ({ cls := "BentRiver$Reader", name := "number", desc := "(Ljava/lang/String;II)I" } : Jvm.MethodName)) ∈ lw_all := lw_g (lw_at lw_m3 64 rfl) rfl
theorem q718 : (Jvm.Cond.privateMethod ({ cls := "BentRiver$Reader", name := "number", desc := "(Ljava/lang/String;II)I" } : Jvm.MethodName)) ∈ lw_tbl := lw_at lw_m3 65 rfl
theorem q719 : (Jvm.Cond.instanceMethod ({ cls := "BentRiver$Reader", name := "number", desc := "(Ljava/lang/String;II)I" } : Jvm.MethodName)) ∈ lw_all := lw_g (lw_at lw_m3 66 rfl) rfl
theorem q720 : (Jvm.Cond.code ({ cls := "BentRiver$Reader", name := "number", desc := "(Ljava/lang/String;II)I" } : Jvm.MethodName) prog_14_method_12_code (4 : Nat) (Option.some Jvm.ClassFile.FieldType.int)) ∈ lw_all := lw_g (lw_at lw_m3 67 rfl) rfl
theorem q721 : (Jvm.Cond.stringRef "BentRiver$Reader" (123 : Nat) "reach") ∈ lw_tbl := lw_at lw_m3 68 rfl
theorem q722 : (Jvm.Cond.methodLink "BentRiver$Reader" (127 : Nat) ({ cls := "BentRiver$Reader", name := "must", desc := "(I)V" } : Jvm.MethodName)) ∈ lw_all := lw_g (lw_at lw_m3 69 rfl) rfl
theorem q723 : (Jvm.Cond.privateMethod ({ cls := "BentRiver$Reader", name := "must", desc := "(I)V" } : Jvm.MethodName)) ∈ lw_tbl := lw_at lw_m3 70 rfl
theorem q724 : (Jvm.Cond.instanceMethod ({ cls := "BentRiver$Reader", name := "must", desc := "(I)V" } : Jvm.MethodName)) ∈ lw_all := lw_g (lw_at lw_m3 71 rfl) rfl
theorem q725 : (Jvm.Cond.code ({ cls := "BentRiver$Reader", name := "must", desc := "(I)V" } : Jvm.MethodName) prog_14_method_5_code (2 : Nat) (Option.none : Option Jvm.ClassFile.FieldType)) ∈ lw_all := lw_g (lw_at lw_m3 72 rfl) rfl
theorem q726 : (Jvm.Cond.methodLink "BentRiver$Reader" (134 : Nat) ({ cls := "BentRiver$Reader", name := "most", desc := "(ZI)V" } : Jvm.MethodName)) ∈ lw_all := lw_g (lw_at lw_m3 73 rfl) rfl
theorem q727 : (Jvm.Cond.privateMethod ({ cls := "BentRiver$Reader", name := "most", desc := "(ZI)V" } : Jvm.MethodName)) ∈ lw_tbl := lw_at lw_m3 74 rfl
theorem q728 : (Jvm.Cond.instanceMethod ({ cls := "BentRiver$Reader", name := "most", desc := "(ZI)V" } : Jvm.MethodName)) ∈ lw_all := lw_g (lw_at lw_m3 75 rfl) rfl
theorem q729 : (Jvm.Cond.code ({ cls := "BentRiver$Reader", name := "most", desc := "(ZI)V" } : Jvm.MethodName) prog_14_method_13_code (3 : Nat) (Option.none : Option Jvm.ClassFile.FieldType)) ∈ lw_all := lw_g (lw_at lw_m3 76 rfl) rfl
theorem q730 : (Jvm.Cond.methodLink "BentRiver$Reader" (138 : Nat) ({ cls := "BentRiver$Reader", name := "laid", desc := "(Ljava/lang/String;I)Z" } : Jvm.MethodName)) ∈ lw_all := lw_g (lw_at lw_m3 77 rfl) rfl
theorem q731 : (Jvm.Cond.privateMethod ({ cls := "BentRiver$Reader", name := "laid", desc := "(Ljava/lang/String;I)Z" } : Jvm.MethodName)) ∈ lw_tbl := lw_at lw_m3 78 rfl
theorem q732 : (Jvm.Cond.instanceMethod ({ cls := "BentRiver$Reader", name := "laid", desc := "(Ljava/lang/String;I)Z" } : Jvm.MethodName)) ∈ lw_all := lw_g (lw_at lw_m3 79 rfl) rfl
theorem q733 : (Jvm.Cond.code ({ cls := "BentRiver$Reader", name := "laid", desc := "(Ljava/lang/String;I)Z" } : Jvm.MethodName) prog_14_method_17_code (10 : Nat) (Option.some Jvm.ClassFile.FieldType.boolean)) ∈ lw_all := lw_g (lw_at lw_m3 80 rfl) rfl
theorem q734 : (Jvm.Cond.methodLink "BentRiver$Reader" (146 : Nat) ({ cls := "java/lang/String", name := "hashCode", desc := "()I" } : Jvm.MethodName)) ∈ lw_all := lw_g (lw_at lw_m3 81 rfl) rfl
theorem q787 : (Jvm.Cond.stringRef "BentRiver$Reader" (149 : Nat) "runs") ∈ lw_tbl := lw_at lw_m3 134 rfl
theorem q788 : (Jvm.Cond.stringRef "BentRiver$Reader" (151 : Nat) "soil") ∈ lw_tbl := lw_at lw_m3 135 rfl
theorem q789 : (Jvm.Cond.stringRef "BentRiver$Reader" (153 : Nat) "willow") ∈ lw_tbl := lw_at lw_m3 136 rfl
theorem q790 : (Jvm.Cond.stringRef "BentRiver$Reader" (155 : Nat) "lord") ∈ lw_tbl := lw_at lw_m3 137 rfl
theorem q791 : (Jvm.Cond.methodLink "BentRiver$Reader" (157 : Nat) ({ cls := "BentRiver$Reader", name := "column", desc := "()I" } : Jvm.MethodName)) ∈ lw_all := lw_g (lw_at lw_m3 138 rfl) rfl
theorem q792 : (Jvm.Cond.privateMethod ({ cls := "BentRiver$Reader", name := "column", desc := "()I" } : Jvm.MethodName)) ∈ lw_tbl := lw_at lw_m3 139 rfl
theorem q793 : (Jvm.Cond.instanceMethod ({ cls := "BentRiver$Reader", name := "column", desc := "()I" } : Jvm.MethodName)) ∈ lw_all := lw_g (lw_at lw_m3 140 rfl) rfl
theorem q794 : (Jvm.Cond.code ({ cls := "BentRiver$Reader", name := "column", desc := "()I" } : Jvm.MethodName) prog_14_method_14_code (1 : Nat) (Option.some Jvm.ClassFile.FieldType.int)) ∈ lw_all := lw_g (lw_at lw_m3 141 rfl) rfl
theorem q795 : (Jvm.Cond.methodLink "BentRiver$Reader" (163 : Nat) ({ cls := "BentRiver$Reader", name := "row", desc := "()I" } : Jvm.MethodName)) ∈ lw_all := lw_g (lw_at lw_m3 142 rfl) rfl
theorem q796 : (Jvm.Cond.privateMethod ({ cls := "BentRiver$Reader", name := "row", desc := "()I" } : Jvm.MethodName)) ∈ lw_tbl := lw_at lw_m3 143 rfl
theorem q797 : (Jvm.Cond.instanceMethod ({ cls := "BentRiver$Reader", name := "row", desc := "()I" } : Jvm.MethodName)) ∈ lw_all := lw_g (lw_at lw_m3 144 rfl) rfl
theorem q798 : (Jvm.Cond.code ({ cls := "BentRiver$Reader", name := "row", desc := "()I" } : Jvm.MethodName) prog_14_method_15_code (1 : Nat) (Option.some Jvm.ClassFile.FieldType.int)) ∈ lw_all := lw_g (lw_at lw_m3 145 rfl) rfl
theorem q799 : (Jvm.Cond.interfaceEntry "BentRiver$Reader" (176 : Nat)) ∈ lw_tbl := lw_at lw_m3 146 rfl
theorem q800 : (Jvm.Cond.methodLink "BentRiver$Reader" (176 : Nat) ({ cls := "java/util/List", name := "size", desc := "()I" } : Jvm.MethodName)) ∈ lw_all := lw_g (lw_at lw_m3 147 rfl) rfl
theorem q809 : (Jvm.Cond.methodLink "BentRiver$Reader" (180 : Nat) ({ cls := "BentRiver$Reader", name := "lord", desc := "()V" } : Jvm.MethodName)) ∈ lw_all := lw_g (lw_at lw_m3 156 rfl) rfl
theorem q810 : (Jvm.Cond.privateMethod ({ cls := "BentRiver$Reader", name := "lord", desc := "()V" } : Jvm.MethodName)) ∈ lw_tbl := lw_at lw_m3 157 rfl
theorem q811 : (Jvm.Cond.instanceMethod ({ cls := "BentRiver$Reader", name := "lord", desc := "()V" } : Jvm.MethodName)) ∈ lw_all := lw_g (lw_at lw_m3 158 rfl) rfl
theorem q812 : (Jvm.Cond.code ({ cls := "BentRiver$Reader", name := "lord", desc := "()V" } : Jvm.MethodName) prog_14_method_18_code (6 : Nat) (Option.none : Option Jvm.ClassFile.FieldType)) ∈ lw_all := lw_g (lw_at lw_m3 159 rfl) rfl
theorem q813 : (Jvm.Cond.methodLink "BentRiver$Reader" (182 : Nat) ({ cls := "BentRiver$Reader", name := "name", desc := "()Ljava/lang/String;" } : Jvm.MethodName)) ∈ lw_all := lw_g (lw_at lw_m3 160 rfl) rfl
theorem q814 : (Jvm.Cond.privateMethod ({ cls := "BentRiver$Reader", name := "name", desc := "()Ljava/lang/String;" } : Jvm.MethodName)) ∈ lw_tbl := lw_at lw_m3 161 rfl
theorem q815 : (Jvm.Cond.instanceMethod ({ cls := "BentRiver$Reader", name := "name", desc := "()Ljava/lang/String;" } : Jvm.MethodName)) ∈ lw_all := lw_g (lw_at lw_m3 162 rfl) rfl
theorem q816 : (Jvm.Cond.code ({ cls := "BentRiver$Reader", name := "name", desc := "()Ljava/lang/String;" } : Jvm.MethodName) prog_14_method_10_code (2 : Nat) (Option.some (Jvm.ClassFile.FieldType.object "java/lang/String"))) ∈ lw_all := lw_g (lw_at lw_m3 163 rfl) rfl
theorem q817 : (Jvm.Cond.fieldLinkNest "BentRiver$Reader" (78 : Nat) "BentRiver" "OWN" "[Ljava/lang/String;" "BentRiver") ∈ lw_tbl := lw_at lw_m3 164 rfl
theorem q819 : (Jvm.Cond.methodLinkNest "BentRiver$Reader" (82 : Nat) ({ cls := "BentRiver", name := "find", desc := "(Ljava/lang/String;[Ljava/lang/String;)I" } : Jvm.MethodName) "BentRiver") ∈ lw_tbl := lw_at lw_m3 166 rfl
theorem q823 : (Jvm.Cond.methodLink "BentRiver$Reader" (86 : Nat) ({ cls := "java/lang/String", name := "length", desc := "()I" } : Jvm.MethodName)) ∈ lw_all := lw_g (lw_at lw_m3 170 rfl) rfl
theorem q831 : (Jvm.Cond.methodLink "BentRiver$Reader" (185 : Nat) ({ cls := "BentRiver$Valley", name := "isNamed", desc := "(Ljava/lang/String;)Z" } : Jvm.MethodName)) ∈ lw_all := lw_g (lw_at lw_m3 178 rfl) rfl
theorem q858 : (Jvm.Cond.stringRef "BentRiver$Reader" (189 : Nat) "from") ∈ lw_tbl := lw_at lw_m3 205 rfl
theorem q859 : (Jvm.Cond.stringRef "BentRiver$Reader" (190 : Nat) "to") ∈ lw_tbl := lw_at lw_m3 206 rfl
theorem q860 : (Jvm.Cond.stringRef "BentRiver$Reader" (191 : Nat) "pays") ∈ lw_tbl := lw_at lw_m3 207 rfl
theorem q861 : (Jvm.Cond.stringRef "BentRiver$Reader" (193 : Nat) "joy") ∈ lw_tbl := lw_at lw_m3 208 rfl
theorem q862 : (Jvm.Cond.classLink "BentRiver$Reader" (195 : Nat) "BentRiver$Lord") ∈ lw_all := lw_g (lw_at lw_m3 209 rfl) rfl
theorem q864 : (Jvm.Cond.stringRef "BentRiver$Reader" (197 : Nat) "purse") ∈ lw_tbl := lw_at lw_m3 211 rfl
theorem q865 : (Jvm.Cond.methodLink "BentRiver$Reader" (199 : Nat) ({ cls := "BentRiver$Lord", name := "<init>", desc := "(Ljava/lang/String;IIIII)V" } : Jvm.MethodName)) ∈ lw_all := lw_g (lw_at lw_m3 212 rfl) rfl
theorem q898 : (Jvm.Cond.interfaceEntry "BentRiver$Reader" (202 : Nat)) ∈ lw_tbl := lw_at lw_m4 5 rfl
theorem q899 : (Jvm.Cond.methodLink "BentRiver$Reader" (202 : Nat) ({ cls := "java/util/List", name := "add", desc := "(Ljava/lang/Object;)Z" } : Jvm.MethodName)) ∈ lw_all := lw_g (lw_at lw_m4 6 rfl) rfl
theorem q950 : (Jvm.Cond.selects "BentRiver$Reader" ({ cls := "java/lang/Object", name := "getClass", desc := "()Ljava/lang/Class;" } : Jvm.MethodName) ({ cls := "java/lang/Object", name := "getClass", desc := "()Ljava/lang/Class;" } : Jvm.MethodName)) ∈ lw_all := lw_g (lw_at lw_m4 57 rfl) rfl
theorem q972 : (Jvm.Cond.methodLink "BentRiver$Reader" (142 : Nat) ({ cls := "BentRiver$Reader", name := "more", desc := "(Ljava/lang/String;I)V" } : Jvm.MethodName)) ∈ lw_all := lw_g (lw_at lw_m4 79 rfl) rfl
theorem q973 : (Jvm.Cond.privateMethod ({ cls := "BentRiver$Reader", name := "more", desc := "(Ljava/lang/String;I)V" } : Jvm.MethodName)) ∈ lw_tbl := lw_at lw_m4 80 rfl
theorem q974 : (Jvm.Cond.instanceMethod ({ cls := "BentRiver$Reader", name := "more", desc := "(Ljava/lang/String;I)V" } : Jvm.MethodName)) ∈ lw_all := lw_g (lw_at lw_m4 81 rfl) rfl
theorem q975 : (Jvm.Cond.code ({ cls := "BentRiver$Reader", name := "more", desc := "(Ljava/lang/String;I)V" } : Jvm.MethodName) prog_14_method_19_code (5 : Nat) (Option.none : Option Jvm.ClassFile.FieldType)) ∈ lw_all := lw_g (lw_at lw_m4 82 rfl) rfl
theorem q976 : (Jvm.Cond.stringRef "BentRiver$Reader" (205 : Nat) "eats") ∈ lw_tbl := lw_at lw_m4 83 rfl
theorem q977 : (Jvm.Cond.stringRef "BentRiver$Reader" (207 : Nat) "bend") ∈ lw_tbl := lw_at lw_m4 84 rfl
theorem q978 : (Jvm.Cond.stringRef "BentRiver$Reader" (209 : Nat) "spate") ∈ lw_tbl := lw_at lw_m4 85 rfl
theorem q979 : (Jvm.Cond.methodLink "BentRiver$Reader" (217 : Nat) ({ cls := "BentRiver$Reader", name := "sum", desc := "()LBentRiver$Value;" } : Jvm.MethodName)) ∈ lw_all := lw_g (lw_at lw_m4 86 rfl) rfl
theorem q980 : (Jvm.Cond.privateMethod ({ cls := "BentRiver$Reader", name := "sum", desc := "()LBentRiver$Value;" } : Jvm.MethodName)) ∈ lw_tbl := lw_at lw_m4 87 rfl
theorem q981 : (Jvm.Cond.instanceMethod ({ cls := "BentRiver$Reader", name := "sum", desc := "()LBentRiver$Value;" } : Jvm.MethodName)) ∈ lw_all := lw_g (lw_at lw_m4 88 rfl) rfl
theorem q982 : (Jvm.Cond.code ({ cls := "BentRiver$Reader", name := "sum", desc := "()LBentRiver$Value;" } : Jvm.MethodName) prog_14_method_21_code (3 : Nat) (Option.some (Jvm.ClassFile.FieldType.object "BentRiver$Value"))) ∈ lw_all := lw_g (lw_at lw_m4 89 rfl) rfl
theorem q983 : (Jvm.Cond.classLink "BentRiver$Reader" (230 : Nat) "BentRiver$Chain") ∈ lw_all := lw_g (lw_at lw_m4 90 rfl) rfl
theorem q985 : (Jvm.Cond.methodLinkNest "BentRiver$Reader" (232 : Nat) ({ cls := "BentRiver$Chain", name := "<init>", desc := "()V" } : Jvm.MethodName) "BentRiver") ∈ lw_tbl := lw_at lw_m4 92 rfl
theorem q1024 : (Jvm.Cond.methodLink "BentRiver$Reader" (233 : Nat) ({ cls := "BentRiver$Reader", name := "product", desc := "()LBentRiver$Value;" } : Jvm.MethodName)) ∈ lw_all := lw_g (lw_at lw_m4 131 rfl) rfl
theorem q1025 : (Jvm.Cond.privateMethod ({ cls := "BentRiver$Reader", name := "product", desc := "()LBentRiver$Value;" } : Jvm.MethodName)) ∈ lw_tbl := lw_at lw_m4 132 rfl
theorem q1026 : (Jvm.Cond.instanceMethod ({ cls := "BentRiver$Reader", name := "product", desc := "()LBentRiver$Value;" } : Jvm.MethodName)) ∈ lw_all := lw_g (lw_at lw_m4 133 rfl) rfl
theorem q1027 : (Jvm.Cond.code ({ cls := "BentRiver$Reader", name := "product", desc := "()LBentRiver$Value;" } : Jvm.MethodName) prog_14_method_22_code (3 : Nat) (Option.some (Jvm.ClassFile.FieldType.object "BentRiver$Value"))) ∈ lw_all := lw_g (lw_at lw_m4 134 rfl) rfl
theorem q1028 : (Jvm.Cond.methodLink "BentRiver$Reader" (242 : Nat) ({ cls := "BentRiver$Reader", name := "atom", desc := "()LBentRiver$Value;" } : Jvm.MethodName)) ∈ lw_all := lw_g (lw_at lw_m4 135 rfl) rfl
theorem q1029 : (Jvm.Cond.privateMethod ({ cls := "BentRiver$Reader", name := "atom", desc := "()LBentRiver$Value;" } : Jvm.MethodName)) ∈ lw_tbl := lw_at lw_m4 136 rfl
theorem q1030 : (Jvm.Cond.instanceMethod ({ cls := "BentRiver$Reader", name := "atom", desc := "()LBentRiver$Value;" } : Jvm.MethodName)) ∈ lw_all := lw_g (lw_at lw_m4 137 rfl) rfl
theorem q1031 : (Jvm.Cond.code ({ cls := "BentRiver$Reader", name := "atom", desc := "()LBentRiver$Value;" } : Jvm.MethodName) prog_14_method_25_code (3 : Nat) (Option.some (Jvm.ClassFile.FieldType.object "BentRiver$Value"))) ∈ lw_all := lw_g (lw_at lw_m4 138 rfl) rfl
theorem q1032 : (Jvm.Cond.methodLink "BentRiver$Reader" (253 : Nat) ({ cls := "BentRiver$Reader", name := "within", desc := "(I)LBentRiver$Value;" } : Jvm.MethodName)) ∈ lw_all := lw_g (lw_at lw_m4 139 rfl) rfl
theorem q1033 : (Jvm.Cond.privateMethod ({ cls := "BentRiver$Reader", name := "within", desc := "(I)LBentRiver$Value;" } : Jvm.MethodName)) ∈ lw_tbl := lw_at lw_m4 140 rfl
theorem q1034 : (Jvm.Cond.instanceMethod ({ cls := "BentRiver$Reader", name := "within", desc := "(I)LBentRiver$Value;" } : Jvm.MethodName)) ∈ lw_all := lw_g (lw_at lw_m4 141 rfl) rfl
theorem q1035 : (Jvm.Cond.code ({ cls := "BentRiver$Reader", name := "within", desc := "(I)LBentRiver$Value;" } : Jvm.MethodName) prog_14_method_24_code (4 : Nat) (Option.some (Jvm.ClassFile.FieldType.object "BentRiver$Value"))) ∈ lw_all := lw_g (lw_at lw_m4 142 rfl) rfl
theorem q1036 : (Jvm.Cond.methodLink "BentRiver$Reader" (245 : Nat) ({ cls := "BentRiver$Reader", name := "opens", desc := "(I)V" } : Jvm.MethodName)) ∈ lw_all := lw_g (lw_at lw_m4 143 rfl) rfl
theorem q1037 : (Jvm.Cond.privateMethod ({ cls := "BentRiver$Reader", name := "opens", desc := "(I)V" } : Jvm.MethodName)) ∈ lw_tbl := lw_at lw_m4 144 rfl
theorem q1038 : (Jvm.Cond.instanceMethod ({ cls := "BentRiver$Reader", name := "opens", desc := "(I)V" } : Jvm.MethodName)) ∈ lw_all := lw_g (lw_at lw_m4 145 rfl) rfl
theorem q1039 : (Jvm.Cond.code ({ cls := "BentRiver$Reader", name := "opens", desc := "(I)V" } : Jvm.MethodName) prog_14_method_23_code (2 : Nat) (Option.none : Option Jvm.ClassFile.FieldType)) ∈ lw_all := lw_g (lw_at lw_m4 146 rfl) rfl
theorem q1040 : (Jvm.Cond.classLink "BentRiver$Reader" (248 : Nat) "BentRiver$Pair") ∈ lw_all := lw_g (lw_at lw_m4 147 rfl) rfl
theorem q1042 : (Jvm.Cond.methodLink "BentRiver$Reader" (250 : Nat) ({ cls := "BentRiver$Pair", name := "<init>", desc := "(ZLBentRiver$Value;LBentRiver$Value;)V" } : Jvm.MethodName)) ∈ lw_all := lw_g (lw_at lw_m4 149 rfl) rfl
theorem q1056 : (Jvm.Cond.classLink "BentRiver$Reader" (257 : Nat) "BentRiver$Fixed") ∈ lw_all := lw_g (lw_at lw_m4 163 rfl) rfl
theorem q1058 : (Jvm.Cond.methodLink "BentRiver$Reader" (259 : Nat) ({ cls := "BentRiver$Fixed", name := "<init>", desc := "(J)V" } : Jvm.MethodName)) ∈ lw_all := lw_g (lw_at lw_m4 165 rfl) rfl
theorem q1066 : (Jvm.Cond.fieldLinkNest "BentRiver$Reader" (262 : Nat) "BentRiver" "ASKED" "[Ljava/lang/String;" "BentRiver") ∈ lw_tbl := lw_at lw_m4 173 rfl
theorem q1068 : (Jvm.Cond.methodLinkNest "BentRiver$Reader" (265 : Nat) ({ cls := "BentRiver", name := "has", desc := "(II)Z" } : Jvm.MethodName) "BentRiver") ∈ lw_tbl := lw_at lw_m4 175 rfl
theorem q1071 : (Jvm.Cond.classLink "BentRiver$Reader" (269 : Nat) "BentRiver$Asked") ∈ lw_all := lw_g (lw_at lw_m4 178 rfl) rfl
theorem q1073 : (Jvm.Cond.methodLink "BentRiver$Reader" (271 : Nat) ({ cls := "BentRiver$Asked", name := "<init>", desc := "(I)V" } : Jvm.MethodName)) ∈ lw_all := lw_g (lw_at lw_m4 180 rfl) rfl
theorem q1081 : (Jvm.Cond.constant "BentRiver$Reader" (273 : Nat) (261128 : Int32)) ∈ lw_all := lw_g (lw_at lw_m4 188 rfl) rfl
theorem q1082 : (Jvm.Cond.fieldLinkNest "BentRiver$Reader" (274 : Nat) "BentRiver" "LOOKED" "[Ljava/lang/String;" "BentRiver") ∈ lw_tbl := lw_at lw_m4 189 rfl
theorem q1084 : (Jvm.Cond.methodLink "BentRiver$Reader" (277 : Nat) ({ cls := "BentRiver$Reader", name := "looked", desc := "(I)LBentRiver$Value;" } : Jvm.MethodName)) ∈ lw_all := lw_g (lw_at lw_m4 191 rfl) rfl
theorem q1085 : (Jvm.Cond.privateMethod ({ cls := "BentRiver$Reader", name := "looked", desc := "(I)LBentRiver$Value;" } : Jvm.MethodName)) ∈ lw_tbl := lw_at lw_m4 192 rfl
theorem q1086 : (Jvm.Cond.instanceMethod ({ cls := "BentRiver$Reader", name := "looked", desc := "(I)LBentRiver$Value;" } : Jvm.MethodName)) ∈ lw_all := lw_g (lw_at lw_m4 193 rfl) rfl
theorem q1087 : (Jvm.Cond.code ({ cls := "BentRiver$Reader", name := "looked", desc := "(I)LBentRiver$Value;" } : Jvm.MethodName) prog_14_method_29_code (3 : Nat) (Option.some (Jvm.ClassFile.FieldType.object "BentRiver$Value"))) ∈ lw_all := lw_g (lw_at lw_m4 194 rfl) rfl
theorem q1088 : (Jvm.Cond.classLink "BentRiver$Reader" (322 : Nat) "BentRiver$Looked") ∈ lw_all := lw_g (lw_at lw_m4 195 rfl) rfl
theorem q1090 : (Jvm.Cond.methodLink "BentRiver$Reader" (324 : Nat) ({ cls := "BentRiver$Looked", name := "<init>", desc := "(LBentRiver;ILBentRiver$Value;)V" } : Jvm.MethodName)) ∈ lw_all := lw_g (lw_at lw_m4 197 rfl) rfl
theorem q1104 : (Jvm.Cond.stringRef "BentRiver$Reader" (280 : Nat) "min") ∈ lw_tbl := lw_at lw_m4 211 rfl
theorem q1105 : (Jvm.Cond.stringRef "BentRiver$Reader" (282 : Nat) "max") ∈ lw_tbl := lw_at lw_m4 212 rfl
theorem q1106 : (Jvm.Cond.methodLink "BentRiver$Reader" (236 : Nat) ({ cls := "BentRiver$Chain", name := "add", desc := "(CLBentRiver$Value;)V" } : Jvm.MethodName)) ∈ lw_all := lw_g (lw_at lw_m4 213 rfl) rfl
theorem q1167 : (Jvm.Cond.methodLink "BentRiver$Reader" (239 : Nat) ({ cls := "BentRiver$Reader", name := "takes", desc := "(I)Z" } : Jvm.MethodName)) ∈ lw_all := lw_g (lw_at lw_m5 34 rfl) rfl
theorem q1168 : (Jvm.Cond.privateMethod ({ cls := "BentRiver$Reader", name := "takes", desc := "(I)Z" } : Jvm.MethodName)) ∈ lw_tbl := lw_at lw_m5 35 rfl
theorem q1169 : (Jvm.Cond.instanceMethod ({ cls := "BentRiver$Reader", name := "takes", desc := "(I)Z" } : Jvm.MethodName)) ∈ lw_all := lw_g (lw_at lw_m5 36 rfl) rfl
theorem q1170 : (Jvm.Cond.code ({ cls := "BentRiver$Reader", name := "takes", desc := "(I)Z" } : Jvm.MethodName) prog_14_method_20_code (3 : Nat) (Option.some Jvm.ClassFile.FieldType.boolean)) ∈ lw_all := lw_g (lw_at lw_m5 37 rfl) rfl
theorem q1171 : (Jvm.Cond.methodLink "BentRiver$Reader" (224 : Nat) ({ cls := "BentRiver$Reader", name := "test", desc := "()LBentRiver$Test;" } : Jvm.MethodName)) ∈ lw_all := lw_g (lw_at lw_m5 38 rfl) rfl
theorem q1172 : (Jvm.Cond.privateMethod ({ cls := "BentRiver$Reader", name := "test", desc := "()LBentRiver$Test;" } : Jvm.MethodName)) ∈ lw_tbl := lw_at lw_m5 39 rfl
theorem q1173 : (Jvm.Cond.instanceMethod ({ cls := "BentRiver$Reader", name := "test", desc := "()LBentRiver$Test;" } : Jvm.MethodName)) ∈ lw_all := lw_g (lw_at lw_m5 40 rfl) rfl
theorem q1174 : (Jvm.Cond.code ({ cls := "BentRiver$Reader", name := "test", desc := "()LBentRiver$Test;" } : Jvm.MethodName) prog_14_method_26_code (2 : Nat) (Option.some (Jvm.ClassFile.FieldType.object "BentRiver$Test"))) ∈ lw_all := lw_g (lw_at lw_m5 41 rfl) rfl
theorem q1175 : (Jvm.Cond.classLink "BentRiver$Reader" (284 : Nat) "BentRiver$Facts") ∈ lw_all := lw_g (lw_at lw_m5 42 rfl) rfl
theorem q1177 : (Jvm.Cond.methodLink "BentRiver$Reader" (286 : Nat) ({ cls := "BentRiver$Facts", name := "<init>", desc := "(Z)V" } : Jvm.MethodName)) ∈ lw_all := lw_g (lw_at lw_m5 44 rfl) rfl
theorem q1187 : (Jvm.Cond.fieldLinkNest "BentRiver$Reader" (289 : Nat) "BentRiver$Facts" "tests" "Ljava/util/List;" "BentRiver") ∈ lw_tbl := lw_at lw_m5 54 rfl
theorem q1194 : (Jvm.Cond.methodLink "BentRiver$Reader" (292 : Nat) ({ cls := "BentRiver$Reader", name := "both", desc := "()LBentRiver$Test;" } : Jvm.MethodName)) ∈ lw_all := lw_g (lw_at lw_m5 61 rfl) rfl
theorem q1195 : (Jvm.Cond.privateMethod ({ cls := "BentRiver$Reader", name := "both", desc := "()LBentRiver$Test;" } : Jvm.MethodName)) ∈ lw_tbl := lw_at lw_m5 62 rfl
theorem q1196 : (Jvm.Cond.instanceMethod ({ cls := "BentRiver$Reader", name := "both", desc := "()LBentRiver$Test;" } : Jvm.MethodName)) ∈ lw_all := lw_g (lw_at lw_m5 63 rfl) rfl
theorem q1197 : (Jvm.Cond.code ({ cls := "BentRiver$Reader", name := "both", desc := "()LBentRiver$Test;" } : Jvm.MethodName) prog_14_method_27_code (2 : Nat) (Option.some (Jvm.ClassFile.FieldType.object "BentRiver$Test"))) ∈ lw_all := lw_g (lw_at lw_m5 64 rfl) rfl
theorem q1198 : (Jvm.Cond.methodLink "BentRiver$Reader" (300 : Nat) ({ cls := "BentRiver$Reader", name := "fact", desc := "()LBentRiver$Test;" } : Jvm.MethodName)) ∈ lw_all := lw_g (lw_at lw_m5 65 rfl) rfl
theorem q1199 : (Jvm.Cond.privateMethod ({ cls := "BentRiver$Reader", name := "fact", desc := "()LBentRiver$Test;" } : Jvm.MethodName)) ∈ lw_tbl := lw_at lw_m5 66 rfl
theorem q1200 : (Jvm.Cond.instanceMethod ({ cls := "BentRiver$Reader", name := "fact", desc := "()LBentRiver$Test;" } : Jvm.MethodName)) ∈ lw_all := lw_g (lw_at lw_m5 67 rfl) rfl
theorem q1201 : (Jvm.Cond.code ({ cls := "BentRiver$Reader", name := "fact", desc := "()LBentRiver$Test;" } : Jvm.MethodName) prog_14_method_28_code (3 : Nat) (Option.some (Jvm.ClassFile.FieldType.object "BentRiver$Test"))) ∈ lw_all := lw_g (lw_at lw_m5 68 rfl) rfl
theorem q1202 : (Jvm.Cond.stringRef "BentRiver$Reader" (305 : Nat) "not") ∈ lw_tbl := lw_at lw_m5 69 rfl
theorem q1203 : (Jvm.Cond.methodLink "BentRiver$Reader" (297 : Nat) ({ cls := "BentRiver$Reader", name := "passes", desc := "(Ljava/lang/String;)Z" } : Jvm.MethodName)) ∈ lw_all := lw_g (lw_at lw_m5 70 rfl) rfl
theorem q1204 : (Jvm.Cond.privateMethod ({ cls := "BentRiver$Reader", name := "passes", desc := "(Ljava/lang/String;)Z" } : Jvm.MethodName)) ∈ lw_tbl := lw_at lw_m5 71 rfl
theorem q1205 : (Jvm.Cond.instanceMethod ({ cls := "BentRiver$Reader", name := "passes", desc := "(Ljava/lang/String;)Z" } : Jvm.MethodName)) ∈ lw_all := lw_g (lw_at lw_m5 72 rfl) rfl
theorem q1206 : (Jvm.Cond.code ({ cls := "BentRiver$Reader", name := "passes", desc := "(Ljava/lang/String;)Z" } : Jvm.MethodName) prog_14_method_9_code (3 : Nat) (Option.some Jvm.ClassFile.FieldType.boolean)) ∈ lw_all := lw_g (lw_at lw_m5 73 rfl) rfl
theorem q1207 : (Jvm.Cond.classLink "BentRiver$Reader" (307 : Nat) "BentRiver$Not") ∈ lw_all := lw_g (lw_at lw_m5 74 rfl) rfl
theorem q1209 : (Jvm.Cond.methodLink "BentRiver$Reader" (309 : Nat) ({ cls := "BentRiver$Not", name := "<init>", desc := "(LBentRiver$Test;)V" } : Jvm.MethodName)) ∈ lw_all := lw_g (lw_at lw_m5 76 rfl) rfl
theorem q1217 : (Jvm.Cond.stringRef "BentRiver$Reader" (312 : Nat) "all") ∈ lw_tbl := lw_at lw_m5 84 rfl
theorem q1218 : (Jvm.Cond.classLink "BentRiver$Reader" (314 : Nat) "BentRiver$All") ∈ lw_all := lw_g (lw_at lw_m5 85 rfl) rfl
theorem q1220 : (Jvm.Cond.methodLinkNest "BentRiver$Reader" (316 : Nat) ({ cls := "BentRiver$All", name := "<init>", desc := "()V" } : Jvm.MethodName) "BentRiver") ∈ lw_tbl := lw_at lw_m5 87 rfl
theorem q1225 : (Jvm.Cond.classLink "BentRiver$Reader" (317 : Nat) "BentRiver$Than") ∈ lw_all := lw_g (lw_at lw_m5 92 rfl) rfl
theorem q1227 : (Jvm.Cond.methodLink "BentRiver$Reader" (319 : Nat) ({ cls := "BentRiver$Than", name := "<init>", desc := "(LBentRiver$Value;ILBentRiver$Value;)V" } : Jvm.MethodName)) ∈ lw_all := lw_g (lw_at lw_m5 94 rfl) rfl
theorem q1241 : (Jvm.Cond.stringRef "BentRiver$Reader" (303 : Nat) "and") ∈ lw_tbl := lw_at lw_m5 108 rfl
theorem q1242 : (Jvm.Cond.stringRef "BentRiver$Reader" (295 : Nat) "or") ∈ lw_tbl := lw_at lw_m5 109 rfl
theorem q1664 : (Jvm.Cond.instanceMethod ({ cls := "BentRiver$Reader", name := "question", desc := "(I)LBentRiver$Question;" } : Jvm.MethodName)) ∈ lw_all := lw_g (lw_at lw_m7 51 rfl) rfl
theorem q1665 : (Jvm.Cond.selects "BentRiver$Reader" ({ cls := "BentRiver$Reader", name := "question", desc := "(I)LBentRiver$Question;" } : Jvm.MethodName) ({ cls := "BentRiver$Reader", name := "question", desc := "(I)LBentRiver$Question;" } : Jvm.MethodName)) ∈ lw_all := lw_g (lw_at lw_m7 52 rfl) rfl
theorem q1666 : (Jvm.Cond.code ({ cls := "BentRiver$Reader", name := "question", desc := "(I)LBentRiver$Question;" } : Jvm.MethodName) prog_14_method_30_code (4 : Nat) (Option.some (Jvm.ClassFile.FieldType.object "BentRiver$Question"))) ∈ lw_all := lw_g (lw_at lw_m7 53 rfl) rfl
theorem q1667 : (Jvm.Cond.fieldLinkNest "BentRiver$Reader" (327 : Nat) "BentRiver" "TOLD_OF" "[Ljava/lang/String;" "BentRiver") ∈ lw_tbl := lw_at lw_m7 54 rfl
theorem q1669 : (Jvm.Cond.classLink "BentRiver$Reader" (330 : Nat) "BentRiver$Question") ∈ lw_all := lw_g (lw_at lw_m7 56 rfl) rfl
theorem q1671 : (Jvm.Cond.methodLink "BentRiver$Reader" (332 : Nat) ({ cls := "BentRiver$Question", name := "<init>", desc := "(ILBentRiver$Test;LBentRiver$Value;)V" } : Jvm.MethodName)) ∈ lw_all := lw_g (lw_at lw_m7 58 rfl) rfl
theorem q2768 : (Jvm.Cond.castable "BentRiver$Reader" "java/lang/Object") ∈ lw_tbl := lw_at lw_m11 195 rfl
theorem in_X2 : ∀ w ∈ wsX20, w ∈ lw_all := lw_in wsX20 [396, 398, 400, 402, 404, 406, 408, 410] (by decide +kernel) (by decide +kernel)
/-! BentRiver$Fault -/
set_option maxRecDepth 100000
def RX3 : String := "BentRiver$Fault"
def TX3 : u_T := fun k => match k with
  | 0 => ("java/lang/Throwable", "cause", "Ljava/lang/Throwable;", false)
  | 1 => ("java/lang/Throwable", "stackTrace", "[Ljava/lang/StackTraceElement;", false)
  | 2 => ("java/lang/Throwable", "suppressedExceptions", "Ljava/util/List;", false)
  | 3 => ("java/lang/Throwable", "detailMessage", "Ljava/lang/String;", false)
  | 4 => ("java/lang/Throwable", "backtrace", "Ljava/lang/Object;", false)
  | 5 => ("java/lang/Throwable", "depth", "I", false)
  | 6 => ("BentRiver$Fault", "kind", "I", false)
  | _ => ("BentRiver$Fault", "place", "I", false)
def tyX3 : Nat → FieldType := fun k => match k with
  | 0 => .object "java/lang/Throwable"
  | 1 => .array (.object "java/lang/StackTraceElement")
  | 2 => .object "java/util/List"
  | 3 => .object "java/lang/String"
  | 4 => .object "java/lang/Object"
  | 5 => .int
  | 6 => .int
  | _ => .int
abbrev wsX30 : List Cond := u_ws RX3 TX3 8
theorem nmX3 : ∀ a, a < 8 → ∀ b, b < 8 → a ≠ b → (TX3 a).2.1 ≠ (TX3 b).2.1 := by decide +kernel
theorem tyX3_ok : ∀ k, k < 8 → parseFieldDescriptor (TX3 k).2.2.1 = some (tyX3 k) := by decide +kernel
abbrev cX3_init : ByteArray := prog_6_method_1_code
def yX3_init : MethodName := ⟨RX3, "<init>", "()V"⟩
def dkwX3_init_0 : List UInt8 := [42, 1, 1, 3, 3, 183, 0, 1, 177]
abbrev dktX3_init_0 : List UInt8 := dkwX3_init_0 ++ []
theorem dksX3_init_0 : cX3_init.data.toList.drop 0 = dktX3_init_0 := by decide +kernel
theorem dX3_init_0 : decode cX3_init 0 = .ok (.aload_n 0, 1) := dk_42 (dk_at dksX3_init_0 0 rfl rfl)
theorem dX3_init_1 : decode cX3_init 1 = .ok (.aconst_null, 1) := dk_1 (dk_at dksX3_init_0 1 rfl rfl)
theorem dX3_init_2 : decode cX3_init 2 = .ok (.aconst_null, 1) := dk_1 (dk_at dksX3_init_0 2 rfl rfl)
theorem dX3_init_3 : decode cX3_init 3 = .ok (.iconst 0, 1) := dk_3 (dk_at dksX3_init_0 3 rfl rfl)
theorem dX3_init_4 : decode cX3_init 4 = .ok (.iconst 0, 1) := dk_3 (dk_at dksX3_init_0 4 rfl rfl)
theorem dX3_init_5 : decode cX3_init 5 = .ok (.invokespecial 1, 3) := dk_183 0 1 (dk_at dksX3_init_0 5 rfl rfl)
theorem dX3_init_8 : decode cX3_init 8 = .ok (.return_, 1) := dk_177 (dk_at dksX3_init_0 8 rfl rfl)
theorem q183 : (Jvm.Cond.initialized "BentRiver$Fault") ∈ lw_all := lw_g (lw_at lw_m1 10 rfl) rfl
theorem q316 : (Jvm.Cond.instantiable "BentRiver$Fault" (8 : Nat)) ∈ lw_all := lw_g (lw_at lw_m1 143 rfl) rfl
theorem q317 : (Jvm.Cond.castable "BentRiver$Fault" "BentRiver$Fault") ∈ lw_tbl := lw_at lw_m1 144 rfl
theorem q324 : (Jvm.Cond.selects "BentRiver$Fault" ({ cls := "java/lang/Throwable", name := "fillInStackTrace", desc := "(I)Ljava/lang/Throwable;" } : Jvm.MethodName) ({ cls := "java/lang/Throwable", name := "fillInStackTrace", desc := "(I)Ljava/lang/Throwable;" } : Jvm.MethodName)) ∈ lw_all := lw_g (lw_at lw_m1 151 rfl) rfl
theorem q325 : (Jvm.Cond.selects "BentRiver$Fault" ({ cls := "java/lang/Throwable", name := "fillInStackTrace", desc := "()Ljava/lang/Throwable;" } : Jvm.MethodName) ({ cls := "java/lang/Throwable", name := "fillInStackTrace", desc := "()Ljava/lang/Throwable;" } : Jvm.MethodName)) ∈ lw_all := lw_g (lw_at lw_m1 152 rfl) rfl
theorem q326 : (Jvm.Cond.lays "BentRiver$Fault" "java/lang/Throwable" "cause" "Ljava/lang/Throwable;") ∈ lw_all := lw_g (lw_at lw_m1 153 rfl) rfl
theorem q328 : (Jvm.Cond.lays "BentRiver$Fault" "java/lang/Throwable" "stackTrace" "[Ljava/lang/StackTraceElement;") ∈ lw_all := lw_g (lw_at lw_m1 155 rfl) rfl
theorem q330 : (Jvm.Cond.lays "BentRiver$Fault" "java/lang/Throwable" "suppressedExceptions" "Ljava/util/List;") ∈ lw_all := lw_g (lw_at lw_m1 157 rfl) rfl
theorem q332 : (Jvm.Cond.lays "BentRiver$Fault" "java/lang/Throwable" "detailMessage" "Ljava/lang/String;") ∈ lw_all := lw_g (lw_at lw_m1 159 rfl) rfl
theorem q334 : (Jvm.Cond.lays "BentRiver$Fault" "java/lang/Throwable" "backtrace" "Ljava/lang/Object;") ∈ lw_all := lw_g (lw_at lw_m1 161 rfl) rfl
theorem q355 : (Jvm.Cond.instanceMethod ({ cls := "BentRiver$Fault", name := "<init>", desc := "()V" } : Jvm.MethodName)) ∈ lw_all := lw_g (lw_at lw_m1 182 rfl) rfl
theorem q356 : (Jvm.Cond.code ({ cls := "BentRiver$Fault", name := "<init>", desc := "()V" } : Jvm.MethodName) prog_6_method_1_code (1 : Nat) (Option.none : Option Jvm.ClassFile.FieldType)) ∈ lw_all := lw_g (lw_at lw_m1 183 rfl) rfl
theorem q357 : (Jvm.Cond.methodLink "BentRiver$Fault" (1 : Nat) ({ cls := "java/lang/RuntimeException", name := "<init>", desc := "(Ljava/lang/String;Ljava/lang/Throwable;ZZ)V" } : Jvm.MethodName)) ∈ lw_all := lw_g (lw_at lw_m1 184 rfl) rfl
theorem q375 : (Jvm.Cond.lays "BentRiver$Fault" "BentRiver$Fault" "kind" "I") ∈ lw_all := lw_g (lw_at lw_m1 202 rfl) rfl
theorem q376 : (Jvm.Cond.soleField "BentRiver$Fault" "kind") ∈ lw_all := lw_g (lw_at lw_m1 203 rfl) rfl
theorem q377 : (Jvm.Cond.lays "BentRiver$Fault" "BentRiver$Fault" "place" "I") ∈ lw_all := lw_g (lw_at lw_m1 204 rfl) rfl
theorem q378 : (Jvm.Cond.soleField "BentRiver$Fault" "place") ∈ lw_all := lw_g (lw_at lw_m1 205 rfl) rfl
theorem q383 : (Jvm.Cond.lays "BentRiver$Fault" "java/lang/Throwable" "depth" "I") ∈ lw_all := lw_g (lw_at lw_m1 210 rfl) rfl
theorem q386 : (Jvm.Cond.superclass "BentRiver$Fault" "java/lang/RuntimeException") ∈ lw_all := lw_g (lw_at lw_m1 213 rfl) rfl
theorem q942 : (Jvm.Cond.selects "BentRiver$Fault" ({ cls := "java/lang/Object", name := "getClass", desc := "()Ljava/lang/Class;" } : Jvm.MethodName) ({ cls := "java/lang/Object", name := "getClass", desc := "()Ljava/lang/Class;" } : Jvm.MethodName)) ∈ lw_all := lw_g (lw_at lw_m4 49 rfl) rfl
theorem q2769 : (Jvm.Cond.castable "BentRiver$Fault" "java/lang/Object") ∈ lw_tbl := lw_at lw_m11 196 rfl
theorem in_X3 : ∀ w ∈ wsX30, w ∈ lw_all := lw_in wsX30 [326, 328, 330, 332, 334, 383, 375, 377] (by decide +kernel) (by decide +kernel)
/-! BentRiver$Moment -/
set_option maxRecDepth 100000
def RX4 : String := "BentRiver$Moment"
def TX4 : u_T := fun k => match k with
  | _ => ("BentRiver$Moment", "of", "[J", true)
def tyX4 : Nat → FieldType := fun k => match k with
  | _ => .array .long
abbrev wsX40 : List Cond := u_ws RX4 TX4 1
theorem nmX4 : ∀ a, a < 1 → ∀ b, b < 1 → a ≠ b → (TX4 a).2.1 ≠ (TX4 b).2.1 := by decide +kernel
theorem tyX4_ok : ∀ k, k < 1 → parseFieldDescriptor (TX4 k).2.2.1 = some (tyX4 k) := by decide +kernel
abbrev cX4_init : ByteArray := prog_10_method_1_code
def yX4_init : MethodName := ⟨RX4, "<init>", "()V"⟩
def dkwX4_init_0 : List UInt8 := [42, 183, 0, 1, 42, 16, 18, 188, 11, 181, 0, 7, 177]
abbrev dktX4_init_0 : List UInt8 := dkwX4_init_0 ++ []
theorem dksX4_init_0 : cX4_init.data.toList.drop 0 = dktX4_init_0 := by decide +kernel
theorem dX4_init_0 : decode cX4_init 0 = .ok (.aload_n 0, 1) := dk_42 (dk_at dksX4_init_0 0 rfl rfl)
theorem dX4_init_1 : decode cX4_init 1 = .ok (.invokespecial 1, 3) := dk_183 0 1 (dk_at dksX4_init_0 1 rfl rfl)
theorem dX4_init_4 : decode cX4_init 4 = .ok (.aload_n 0, 1) := dk_42 (dk_at dksX4_init_0 4 rfl rfl)
theorem dX4_init_5 : decode cX4_init 5 = .ok (.bipush 18, 2) := dk_16 18 (dk_at dksX4_init_0 5 rfl rfl)
theorem dX4_init_7 : decode cX4_init 7 = .ok (.newarray .long, 2) := dk_188_11 (dk_at dksX4_init_0 7 rfl rfl)
theorem dX4_init_9 : decode cX4_init 9 = .ok (.putfield 7, 3) := dk_181 0 7 (dk_at dksX4_init_0 9 rfl rfl)
theorem dX4_init_12 : decode cX4_init 12 = .ok (.return_, 1) := dk_177 (dk_at dksX4_init_0 12 rfl rfl)
theorem q184 : (Jvm.Cond.initialized "BentRiver$Moment") ∈ lw_all := lw_g (lw_at lw_m1 11 rfl) rfl
theorem q414 : (Jvm.Cond.instantiable "BentRiver$Moment" (1 : Nat)) ∈ lw_all := lw_g (lw_at lw_m2 1 rfl) rfl
theorem q416 : (Jvm.Cond.instanceMethod ({ cls := "BentRiver$Moment", name := "<init>", desc := "()V" } : Jvm.MethodName)) ∈ lw_all := lw_g (lw_at lw_m2 3 rfl) rfl
theorem q417 : (Jvm.Cond.code ({ cls := "BentRiver$Moment", name := "<init>", desc := "()V" } : Jvm.MethodName) prog_10_method_1_code (1 : Nat) (Option.none : Option Jvm.ClassFile.FieldType)) ∈ lw_all := lw_g (lw_at lw_m2 4 rfl) rfl
theorem q418 : (Jvm.Cond.methodLink "BentRiver$Moment" (1 : Nat) ({ cls := "java/lang/Object", name := "<init>", desc := "()V" } : Jvm.MethodName)) ∈ lw_all := lw_g (lw_at lw_m2 5 rfl) rfl
theorem q419 : (Jvm.Cond.fieldLink "BentRiver$Moment" (7 : Nat) "BentRiver$Moment" "of" "[J") ∈ lw_all := lw_g (lw_at lw_m2 6 rfl) rfl
theorem q423 : (Jvm.Cond.laysFinal "BentRiver$Moment" "BentRiver$Moment" "of" "[J") ∈ lw_all := lw_g (lw_at lw_m2 10 rfl) rfl
theorem q424 : (Jvm.Cond.soleField "BentRiver$Moment" "of") ∈ lw_all := lw_g (lw_at lw_m2 11 rfl) rfl
theorem q425 : (Jvm.Cond.superclass "BentRiver$Moment" "java/lang/Object") ∈ lw_all := lw_g (lw_at lw_m2 12 rfl) rfl
theorem q946 : (Jvm.Cond.selects "BentRiver$Moment" ({ cls := "java/lang/Object", name := "getClass", desc := "()Ljava/lang/Class;" } : Jvm.MethodName) ({ cls := "java/lang/Object", name := "getClass", desc := "()Ljava/lang/Class;" } : Jvm.MethodName)) ∈ lw_all := lw_g (lw_at lw_m4 53 rfl) rfl
theorem q2770 : (Jvm.Cond.castable "BentRiver$Moment" "java/lang/Object") ∈ lw_tbl := lw_at lw_m11 197 rfl
theorem in_X4 : ∀ w ∈ wsX40, w ∈ lw_all := lw_in wsX40 [423] (by decide +kernel) (by decide +kernel)
/-! BentRiver$State -/
set_option maxRecDepth 100000
def RX5 : String := "BentRiver$State"
def TX5 : u_T := fun k => match k with
  | 0 => ("BentRiver$State", "season", "I", false)
  | 1 => ("BentRiver$State", "fund", "I", false)
  | 2 => ("BentRiver$State", "keeps", "I", false)
  | 3 => ("BentRiver$State", "row", "[I", true)
  | 4 => ("BentRiver$State", "purse", "[I", true)
  | 5 => ("BentRiver$State", "offers", "[Z", true)
  | 6 => ("BentRiver$State", "willows", "[[I", true)
  | 7 => ("BentRiver$State", "ever", "[[I", true)
  | 8 => ("BentRiver$State", "rows", "[[I", true)
  | 9 => ("BentRiver$State", "has", "[I", true)
  | _ => ("BentRiver$State", "this$0", "LBentRiver;", true)
def tyX5 : Nat → FieldType := fun k => match k with
  | 0 => .int
  | 1 => .int
  | 2 => .int
  | 3 => .array .int
  | 4 => .array .int
  | 5 => .array .boolean
  | 6 => .array (.array .int)
  | 7 => .array (.array .int)
  | 8 => .array (.array .int)
  | 9 => .array .int
  | _ => .object "BentRiver"
abbrev wsX50 : List Cond := u_ws RX5 TX5 11
theorem nmX5 : ∀ a, a < 11 → ∀ b, b < 11 → a ≠ b → (TX5 a).2.1 ≠ (TX5 b).2.1 := by decide +kernel
theorem tyX5_ok : ∀ k, k < 11 → parseFieldDescriptor (TX5 k).2.2.1 = some (tyX5 k) := by decide +kernel
abbrev cX5_init : ByteArray := prog_15_method_1_code
def yX5_init : MethodName := ⟨RX5, "<init>", "(LBentRiver;)V"⟩
def dkwX5_init_3 : List UInt8 := [181, 0, 37, 177]
abbrev dktX5_init_3 : List UInt8 := dkwX5_init_3 ++ []
def dkwX5_init_2 : List UInt8 := [197, 0, 26, 2, 181, 0, 31, 42, 16, 40, 6, 197, 0, 26, 2, 181, 0, 34, 42, 8, 188, 10]
abbrev dktX5_init_2 : List UInt8 := dkwX5_init_2 ++ dktX5_init_3
def dkwX5_init_1 : List UInt8 := [42, 8, 188, 4, 181, 0, 22, 42, 16, 10, 16, 8, 197, 0, 26, 2, 181, 0, 28, 42, 16, 10, 16, 8]
abbrev dktX5_init_1 : List UInt8 := dkwX5_init_1 ++ dktX5_init_2
def dkwX5_init_0 : List UInt8 := [42, 43, 181, 0, 3, 42, 183, 0, 9, 42, 16, 10, 188, 10, 181, 0, 15, 42, 8, 188, 10, 181, 0, 19]
abbrev dktX5_init_0 : List UInt8 := dkwX5_init_0 ++ dktX5_init_1
theorem dksX5_init_0 : cX5_init.data.toList.drop 0 = dktX5_init_0 := by decide +kernel
theorem dksX5_init_1 : cX5_init.data.toList.drop 24 = dktX5_init_1 := dk_seg dksX5_init_0 24 rfl rfl
theorem dksX5_init_2 : cX5_init.data.toList.drop 48 = dktX5_init_2 := dk_seg dksX5_init_1 24 rfl rfl
theorem dksX5_init_3 : cX5_init.data.toList.drop 70 = dktX5_init_3 := dk_seg dksX5_init_2 22 rfl rfl
theorem dX5_init_0 : decode cX5_init 0 = .ok (.aload_n 0, 1) := dk_42 (dk_at dksX5_init_0 0 rfl rfl)
theorem dX5_init_1 : decode cX5_init 1 = .ok (.aload_n 1, 1) := dk_43 (dk_at dksX5_init_0 1 rfl rfl)
theorem dX5_init_2 : decode cX5_init 2 = .ok (.putfield 3, 3) := dk_181 0 3 (dk_at dksX5_init_0 2 rfl rfl)
theorem dX5_init_5 : decode cX5_init 5 = .ok (.aload_n 0, 1) := dk_42 (dk_at dksX5_init_0 5 rfl rfl)
theorem dX5_init_6 : decode cX5_init 6 = .ok (.invokespecial 9, 3) := dk_183 0 9 (dk_at dksX5_init_0 6 rfl rfl)
theorem dX5_init_9 : decode cX5_init 9 = .ok (.aload_n 0, 1) := dk_42 (dk_at dksX5_init_0 9 rfl rfl)
theorem dX5_init_10 : decode cX5_init 10 = .ok (.bipush 10, 2) := dk_16 10 (dk_at dksX5_init_0 10 rfl rfl)
theorem dX5_init_12 : decode cX5_init 12 = .ok (.newarray .int, 2) := dk_188_10 (dk_at dksX5_init_0 12 rfl rfl)
theorem dX5_init_14 : decode cX5_init 14 = .ok (.putfield 15, 3) := dk_181 0 15 (dk_at dksX5_init_0 14 rfl rfl)
theorem dX5_init_17 : decode cX5_init 17 = .ok (.aload_n 0, 1) := dk_42 (dk_at dksX5_init_0 17 rfl rfl)
theorem dX5_init_18 : decode cX5_init 18 = .ok (.iconst 5, 1) := dk_8 (dk_at dksX5_init_0 18 rfl rfl)
theorem dX5_init_19 : decode cX5_init 19 = .ok (.newarray .int, 2) := dk_188_10 (dk_at dksX5_init_0 19 rfl rfl)
theorem dX5_init_21 : decode cX5_init 21 = .ok (.putfield 19, 3) := dk_181 0 19 (dk_at dksX5_init_0 21 rfl rfl)
theorem dX5_init_24 : decode cX5_init 24 = .ok (.aload_n 0, 1) := dk_42 (dk_at dksX5_init_1 0 rfl rfl)
theorem dX5_init_25 : decode cX5_init 25 = .ok (.iconst 5, 1) := dk_8 (dk_at dksX5_init_1 1 rfl rfl)
theorem dX5_init_26 : decode cX5_init 26 = .ok (.newarray .boolean, 2) := dk_188_4 (dk_at dksX5_init_1 2 rfl rfl)
theorem dX5_init_28 : decode cX5_init 28 = .ok (.putfield 22, 3) := dk_181 0 22 (dk_at dksX5_init_1 4 rfl rfl)
theorem dX5_init_31 : decode cX5_init 31 = .ok (.aload_n 0, 1) := dk_42 (dk_at dksX5_init_1 7 rfl rfl)
theorem dX5_init_32 : decode cX5_init 32 = .ok (.bipush 10, 2) := dk_16 10 (dk_at dksX5_init_1 8 rfl rfl)
theorem dX5_init_34 : decode cX5_init 34 = .ok (.bipush 8, 2) := dk_16 8 (dk_at dksX5_init_1 10 rfl rfl)
theorem dX5_init_36 : decode cX5_init 36 = .ok (.multianewarray 26 2, 4) := by decide +kernel
theorem dX5_init_40 : decode cX5_init 40 = .ok (.putfield 28, 3) := dk_181 0 28 (dk_at dksX5_init_1 16 rfl rfl)
theorem dX5_init_43 : decode cX5_init 43 = .ok (.aload_n 0, 1) := dk_42 (dk_at dksX5_init_1 19 rfl rfl)
theorem dX5_init_44 : decode cX5_init 44 = .ok (.bipush 10, 2) := dk_16 10 (dk_at dksX5_init_1 20 rfl rfl)
theorem dX5_init_46 : decode cX5_init 46 = .ok (.bipush 8, 2) := dk_16 8 (dk_at dksX5_init_1 22 rfl rfl)
theorem dX5_init_48 : decode cX5_init 48 = .ok (.multianewarray 26 2, 4) := by decide +kernel
theorem dX5_init_52 : decode cX5_init 52 = .ok (.putfield 31, 3) := dk_181 0 31 (dk_at dksX5_init_2 4 rfl rfl)
theorem dX5_init_55 : decode cX5_init 55 = .ok (.aload_n 0, 1) := dk_42 (dk_at dksX5_init_2 7 rfl rfl)
theorem dX5_init_56 : decode cX5_init 56 = .ok (.bipush 40, 2) := dk_16 40 (dk_at dksX5_init_2 8 rfl rfl)
theorem dX5_init_58 : decode cX5_init 58 = .ok (.iconst 3, 1) := dk_6 (dk_at dksX5_init_2 10 rfl rfl)
theorem dX5_init_59 : decode cX5_init 59 = .ok (.multianewarray 26 2, 4) := by decide +kernel
theorem dX5_init_63 : decode cX5_init 63 = .ok (.putfield 34, 3) := dk_181 0 34 (dk_at dksX5_init_2 15 rfl rfl)
theorem dX5_init_66 : decode cX5_init 66 = .ok (.aload_n 0, 1) := dk_42 (dk_at dksX5_init_2 18 rfl rfl)
theorem dX5_init_67 : decode cX5_init 67 = .ok (.iconst 5, 1) := dk_8 (dk_at dksX5_init_2 19 rfl rfl)
theorem dX5_init_68 : decode cX5_init 68 = .ok (.newarray .int, 2) := dk_188_10 (dk_at dksX5_init_2 20 rfl rfl)
theorem dX5_init_70 : decode cX5_init 70 = .ok (.putfield 37, 3) := dk_181 0 37 (dk_at dksX5_init_3 0 rfl rfl)
theorem dX5_init_73 : decode cX5_init 73 = .ok (.return_, 1) := dk_177 (dk_at dksX5_init_3 3 rfl rfl)
abbrev cX5_begins : ByteArray := prog_15_method_2_code
def yX5_begins : MethodName := ⟨RX5, "begins", "()V"⟩
def dkwX5_begins_5 : List UInt8 := [180, 0, 68, 79, 42, 180, 0, 22, 27, 4, 84, 132, 1, 1, 167, 255, 218, 177]
abbrev dktX5_begins_5 : List UInt8 := dkwX5_begins_5 ++ []
def dkwX5_begins_4 : List UInt8 := [27, 42, 180, 0, 3, 182, 0, 60, 162, 0, 33, 42, 180, 0, 19, 27, 42, 180, 0, 3, 27, 182, 0, 64]
abbrev dktX5_begins_4 : List UInt8 := dkwX5_begins_4 ++ dktX5_begins_5
def dkwX5_begins_3 : List UInt8 := [79, 42, 180, 0, 31, 27, 50, 28, 3, 79, 132, 2, 1, 167, 255, 216, 132, 1, 1, 167, 255, 184, 3, 60]
abbrev dktX5_begins_3 : List UInt8 := dkwX5_begins_3 ++ dktX5_begins_4
def dkwX5_begins_2 : List UInt8 := [162, 0, 40, 42, 180, 0, 28, 27, 50, 28, 42, 180, 0, 3, 180, 0, 50, 180, 0, 59, 27, 50, 28, 46]
abbrev dktX5_begins_2 : List UInt8 := dkwX5_begins_2 ++ dktX5_begins_3
def dkwX5_begins_1 : List UInt8 := [180, 0, 15, 27, 42, 180, 0, 3, 180, 0, 50, 180, 0, 54, 27, 46, 79, 3, 61, 28, 16, 8]
abbrev dktX5_begins_1 : List UInt8 := dkwX5_begins_1 ++ dktX5_begins_2
def dkwX5_begins_0 : List UInt8 := [42, 3, 181, 0, 40, 42, 3, 181, 0, 44, 42, 3, 181, 0, 47, 3, 60, 27, 16, 10, 162, 0, 72, 42]
abbrev dktX5_begins_0 : List UInt8 := dkwX5_begins_0 ++ dktX5_begins_1
theorem dksX5_begins_0 : cX5_begins.data.toList.drop 0 = dktX5_begins_0 := by decide +kernel
theorem dksX5_begins_1 : cX5_begins.data.toList.drop 24 = dktX5_begins_1 := dk_seg dksX5_begins_0 24 rfl rfl
theorem dksX5_begins_2 : cX5_begins.data.toList.drop 46 = dktX5_begins_2 := dk_seg dksX5_begins_1 22 rfl rfl
theorem dksX5_begins_3 : cX5_begins.data.toList.drop 70 = dktX5_begins_3 := dk_seg dksX5_begins_2 24 rfl rfl
theorem dksX5_begins_4 : cX5_begins.data.toList.drop 94 = dktX5_begins_4 := dk_seg dksX5_begins_3 24 rfl rfl
theorem dksX5_begins_5 : cX5_begins.data.toList.drop 118 = dktX5_begins_5 := dk_seg dksX5_begins_4 24 rfl rfl
theorem dX5_begins_0 : decode cX5_begins 0 = .ok (.aload_n 0, 1) := dk_42 (dk_at dksX5_begins_0 0 rfl rfl)
theorem dX5_begins_1 : decode cX5_begins 1 = .ok (.iconst 0, 1) := dk_3 (dk_at dksX5_begins_0 1 rfl rfl)
theorem dX5_begins_2 : decode cX5_begins 2 = .ok (.putfield 40, 3) := dk_181 0 40 (dk_at dksX5_begins_0 2 rfl rfl)
theorem dX5_begins_5 : decode cX5_begins 5 = .ok (.aload_n 0, 1) := dk_42 (dk_at dksX5_begins_0 5 rfl rfl)
theorem dX5_begins_6 : decode cX5_begins 6 = .ok (.iconst 0, 1) := dk_3 (dk_at dksX5_begins_0 6 rfl rfl)
theorem dX5_begins_7 : decode cX5_begins 7 = .ok (.putfield 44, 3) := dk_181 0 44 (dk_at dksX5_begins_0 7 rfl rfl)
theorem dX5_begins_10 : decode cX5_begins 10 = .ok (.aload_n 0, 1) := dk_42 (dk_at dksX5_begins_0 10 rfl rfl)
theorem dX5_begins_11 : decode cX5_begins 11 = .ok (.iconst 0, 1) := dk_3 (dk_at dksX5_begins_0 11 rfl rfl)
theorem dX5_begins_12 : decode cX5_begins 12 = .ok (.putfield 47, 3) := dk_181 0 47 (dk_at dksX5_begins_0 12 rfl rfl)
theorem dX5_begins_15 : decode cX5_begins 15 = .ok (.iconst 0, 1) := dk_3 (dk_at dksX5_begins_0 15 rfl rfl)
theorem dX5_begins_16 : decode cX5_begins 16 = .ok (.istore_n 1, 1) := dk_60 (dk_at dksX5_begins_0 16 rfl rfl)
theorem dX5_begins_17 : decode cX5_begins 17 = .ok (.iload_n 1, 1) := dk_27 (dk_at dksX5_begins_0 17 rfl rfl)
theorem dX5_begins_18 : decode cX5_begins 18 = .ok (.bipush 10, 2) := dk_16 10 (dk_at dksX5_begins_0 18 rfl rfl)
theorem dX5_begins_20 : decode cX5_begins 20 = .ok (.if_icmp .ge 72, 3) := dk_162 0 72 (dk_at dksX5_begins_0 20 rfl rfl)
theorem dX5_begins_23 : decode cX5_begins 23 = .ok (.aload_n 0, 1) := dk_42 (dk_at dksX5_begins_0 23 rfl rfl)
theorem dX5_begins_24 : decode cX5_begins 24 = .ok (.getfield 15, 3) := dk_180 0 15 (dk_at dksX5_begins_1 0 rfl rfl)
theorem dX5_begins_27 : decode cX5_begins 27 = .ok (.iload_n 1, 1) := dk_27 (dk_at dksX5_begins_1 3 rfl rfl)
theorem dX5_begins_28 : decode cX5_begins 28 = .ok (.aload_n 0, 1) := dk_42 (dk_at dksX5_begins_1 4 rfl rfl)
theorem dX5_begins_29 : decode cX5_begins 29 = .ok (.getfield 3, 3) := dk_180 0 3 (dk_at dksX5_begins_1 5 rfl rfl)
theorem dX5_begins_32 : decode cX5_begins 32 = .ok (.getfield 50, 3) := dk_180 0 50 (dk_at dksX5_begins_1 8 rfl rfl)
theorem dX5_begins_35 : decode cX5_begins 35 = .ok (.getfield 54, 3) := dk_180 0 54 (dk_at dksX5_begins_1 11 rfl rfl)
theorem dX5_begins_38 : decode cX5_begins 38 = .ok (.iload_n 1, 1) := dk_27 (dk_at dksX5_begins_1 14 rfl rfl)
theorem dX5_begins_39 : decode cX5_begins 39 = .ok (.iaload, 1) := dk_46 (dk_at dksX5_begins_1 15 rfl rfl)
theorem dX5_begins_40 : decode cX5_begins 40 = .ok (.iastore, 1) := dk_79 (dk_at dksX5_begins_1 16 rfl rfl)
theorem dX5_begins_41 : decode cX5_begins 41 = .ok (.iconst 0, 1) := dk_3 (dk_at dksX5_begins_1 17 rfl rfl)
theorem dX5_begins_42 : decode cX5_begins 42 = .ok (.istore_n 2, 1) := dk_61 (dk_at dksX5_begins_1 18 rfl rfl)
theorem dX5_begins_43 : decode cX5_begins 43 = .ok (.iload_n 2, 1) := dk_28 (dk_at dksX5_begins_1 19 rfl rfl)
theorem dX5_begins_44 : decode cX5_begins 44 = .ok (.bipush 8, 2) := dk_16 8 (dk_at dksX5_begins_1 20 rfl rfl)
theorem dX5_begins_46 : decode cX5_begins 46 = .ok (.if_icmp .ge 40, 3) := dk_162 0 40 (dk_at dksX5_begins_2 0 rfl rfl)
theorem dX5_begins_49 : decode cX5_begins 49 = .ok (.aload_n 0, 1) := dk_42 (dk_at dksX5_begins_2 3 rfl rfl)
theorem dX5_begins_50 : decode cX5_begins 50 = .ok (.getfield 28, 3) := dk_180 0 28 (dk_at dksX5_begins_2 4 rfl rfl)
theorem dX5_begins_53 : decode cX5_begins 53 = .ok (.iload_n 1, 1) := dk_27 (dk_at dksX5_begins_2 7 rfl rfl)
theorem dX5_begins_54 : decode cX5_begins 54 = .ok (.aaload, 1) := dk_50 (dk_at dksX5_begins_2 8 rfl rfl)
theorem dX5_begins_55 : decode cX5_begins 55 = .ok (.iload_n 2, 1) := dk_28 (dk_at dksX5_begins_2 9 rfl rfl)
theorem dX5_begins_56 : decode cX5_begins 56 = .ok (.aload_n 0, 1) := dk_42 (dk_at dksX5_begins_2 10 rfl rfl)
theorem dX5_begins_57 : decode cX5_begins 57 = .ok (.getfield 3, 3) := dk_180 0 3 (dk_at dksX5_begins_2 11 rfl rfl)
theorem dX5_begins_60 : decode cX5_begins 60 = .ok (.getfield 50, 3) := dk_180 0 50 (dk_at dksX5_begins_2 14 rfl rfl)
theorem dX5_begins_63 : decode cX5_begins 63 = .ok (.getfield 59, 3) := dk_180 0 59 (dk_at dksX5_begins_2 17 rfl rfl)
theorem dX5_begins_66 : decode cX5_begins 66 = .ok (.iload_n 1, 1) := dk_27 (dk_at dksX5_begins_2 20 rfl rfl)
theorem dX5_begins_67 : decode cX5_begins 67 = .ok (.aaload, 1) := dk_50 (dk_at dksX5_begins_2 21 rfl rfl)
theorem dX5_begins_68 : decode cX5_begins 68 = .ok (.iload_n 2, 1) := dk_28 (dk_at dksX5_begins_2 22 rfl rfl)
theorem dX5_begins_69 : decode cX5_begins 69 = .ok (.iaload, 1) := dk_46 (dk_at dksX5_begins_2 23 rfl rfl)
theorem dX5_begins_70 : decode cX5_begins 70 = .ok (.iastore, 1) := dk_79 (dk_at dksX5_begins_3 0 rfl rfl)
theorem dX5_begins_71 : decode cX5_begins 71 = .ok (.aload_n 0, 1) := dk_42 (dk_at dksX5_begins_3 1 rfl rfl)
theorem dX5_begins_72 : decode cX5_begins 72 = .ok (.getfield 31, 3) := dk_180 0 31 (dk_at dksX5_begins_3 2 rfl rfl)
theorem dX5_begins_75 : decode cX5_begins 75 = .ok (.iload_n 1, 1) := dk_27 (dk_at dksX5_begins_3 5 rfl rfl)
theorem dX5_begins_76 : decode cX5_begins 76 = .ok (.aaload, 1) := dk_50 (dk_at dksX5_begins_3 6 rfl rfl)
theorem dX5_begins_77 : decode cX5_begins 77 = .ok (.iload_n 2, 1) := dk_28 (dk_at dksX5_begins_3 7 rfl rfl)
theorem dX5_begins_78 : decode cX5_begins 78 = .ok (.iconst 0, 1) := dk_3 (dk_at dksX5_begins_3 8 rfl rfl)
theorem dX5_begins_79 : decode cX5_begins 79 = .ok (.iastore, 1) := dk_79 (dk_at dksX5_begins_3 9 rfl rfl)
theorem dX5_begins_80 : decode cX5_begins 80 = .ok (.iinc 2 1, 3) := dk_132 2 1 (dk_at dksX5_begins_3 10 rfl rfl)
theorem dX5_begins_83 : decode cX5_begins 83 = .ok (.goto (-40), 3) := dk_167 255 216 (dk_at dksX5_begins_3 13 rfl rfl)
theorem dX5_begins_86 : decode cX5_begins 86 = .ok (.iinc 1 1, 3) := dk_132 1 1 (dk_at dksX5_begins_3 16 rfl rfl)
theorem dX5_begins_89 : decode cX5_begins 89 = .ok (.goto (-72), 3) := dk_167 255 184 (dk_at dksX5_begins_3 19 rfl rfl)
theorem dX5_begins_92 : decode cX5_begins 92 = .ok (.iconst 0, 1) := dk_3 (dk_at dksX5_begins_3 22 rfl rfl)
theorem dX5_begins_93 : decode cX5_begins 93 = .ok (.istore_n 1, 1) := dk_60 (dk_at dksX5_begins_3 23 rfl rfl)
theorem dX5_begins_94 : decode cX5_begins 94 = .ok (.iload_n 1, 1) := dk_27 (dk_at dksX5_begins_4 0 rfl rfl)
theorem dX5_begins_95 : decode cX5_begins 95 = .ok (.aload_n 0, 1) := dk_42 (dk_at dksX5_begins_4 1 rfl rfl)
theorem dX5_begins_96 : decode cX5_begins 96 = .ok (.getfield 3, 3) := dk_180 0 3 (dk_at dksX5_begins_4 2 rfl rfl)
theorem dX5_begins_99 : decode cX5_begins 99 = .ok (.invokevirtual 60, 3) := dk_182 0 60 (dk_at dksX5_begins_4 5 rfl rfl)
theorem dX5_begins_102 : decode cX5_begins 102 = .ok (.if_icmp .ge 33, 3) := dk_162 0 33 (dk_at dksX5_begins_4 8 rfl rfl)
theorem dX5_begins_105 : decode cX5_begins 105 = .ok (.aload_n 0, 1) := dk_42 (dk_at dksX5_begins_4 11 rfl rfl)
theorem dX5_begins_106 : decode cX5_begins 106 = .ok (.getfield 19, 3) := dk_180 0 19 (dk_at dksX5_begins_4 12 rfl rfl)
theorem dX5_begins_109 : decode cX5_begins 109 = .ok (.iload_n 1, 1) := dk_27 (dk_at dksX5_begins_4 15 rfl rfl)
theorem dX5_begins_110 : decode cX5_begins 110 = .ok (.aload_n 0, 1) := dk_42 (dk_at dksX5_begins_4 16 rfl rfl)
theorem dX5_begins_111 : decode cX5_begins 111 = .ok (.getfield 3, 3) := dk_180 0 3 (dk_at dksX5_begins_4 17 rfl rfl)
theorem dX5_begins_114 : decode cX5_begins 114 = .ok (.iload_n 1, 1) := dk_27 (dk_at dksX5_begins_4 20 rfl rfl)
theorem dX5_begins_115 : decode cX5_begins 115 = .ok (.invokevirtual 64, 3) := dk_182 0 64 (dk_at dksX5_begins_4 21 rfl rfl)
theorem dX5_begins_118 : decode cX5_begins 118 = .ok (.getfield 68, 3) := dk_180 0 68 (dk_at dksX5_begins_5 0 rfl rfl)
theorem dX5_begins_121 : decode cX5_begins 121 = .ok (.iastore, 1) := dk_79 (dk_at dksX5_begins_5 3 rfl rfl)
theorem dX5_begins_122 : decode cX5_begins 122 = .ok (.aload_n 0, 1) := dk_42 (dk_at dksX5_begins_5 4 rfl rfl)
theorem dX5_begins_123 : decode cX5_begins 123 = .ok (.getfield 22, 3) := dk_180 0 22 (dk_at dksX5_begins_5 5 rfl rfl)
theorem dX5_begins_126 : decode cX5_begins 126 = .ok (.iload_n 1, 1) := dk_27 (dk_at dksX5_begins_5 8 rfl rfl)
theorem dX5_begins_127 : decode cX5_begins 127 = .ok (.iconst 1, 1) := dk_4 (dk_at dksX5_begins_5 9 rfl rfl)
theorem dX5_begins_128 : decode cX5_begins 128 = .ok (.bastore, 1) := dk_84 (dk_at dksX5_begins_5 10 rfl rfl)
theorem dX5_begins_129 : decode cX5_begins 129 = .ok (.iinc 1 1, 3) := dk_132 1 1 (dk_at dksX5_begins_5 11 rfl rfl)
theorem dX5_begins_132 : decode cX5_begins 132 = .ok (.goto (-38), 3) := dk_167 255 218 (dk_at dksX5_begins_5 14 rfl rfl)
theorem dX5_begins_135 : decode cX5_begins 135 = .ok (.return_, 1) := dk_177 (dk_at dksX5_begins_5 17 rfl rfl)
abbrev cX5_bends : ByteArray := prog_15_method_11_code
def yX5_bends : MethodName := ⟨RX5, "bends", "()I"⟩
def dkwX5_bends_1 : List UInt8 := [4, 167, 0, 4, 3, 96, 60, 132, 2, 1, 167, 255, 226, 27, 172]
abbrev dktX5_bends_1 : List UInt8 := dkwX5_bends_1 ++ []
def dkwX5_bends_0 : List UInt8 := [3, 60, 3, 61, 28, 42, 180, 0, 3, 182, 0, 78, 162, 0, 25, 27, 42, 28, 182, 0, 138, 153, 0, 7]
abbrev dktX5_bends_0 : List UInt8 := dkwX5_bends_0 ++ dktX5_bends_1
theorem dksX5_bends_0 : cX5_bends.data.toList.drop 0 = dktX5_bends_0 := by decide +kernel
theorem dksX5_bends_1 : cX5_bends.data.toList.drop 24 = dktX5_bends_1 := dk_seg dksX5_bends_0 24 rfl rfl
theorem dX5_bends_0 : decode cX5_bends 0 = .ok (.iconst 0, 1) := dk_3 (dk_at dksX5_bends_0 0 rfl rfl)
theorem dX5_bends_1 : decode cX5_bends 1 = .ok (.istore_n 1, 1) := dk_60 (dk_at dksX5_bends_0 1 rfl rfl)
theorem dX5_bends_2 : decode cX5_bends 2 = .ok (.iconst 0, 1) := dk_3 (dk_at dksX5_bends_0 2 rfl rfl)
theorem dX5_bends_3 : decode cX5_bends 3 = .ok (.istore_n 2, 1) := dk_61 (dk_at dksX5_bends_0 3 rfl rfl)
theorem dX5_bends_4 : decode cX5_bends 4 = .ok (.iload_n 2, 1) := dk_28 (dk_at dksX5_bends_0 4 rfl rfl)
theorem dX5_bends_5 : decode cX5_bends 5 = .ok (.aload_n 0, 1) := dk_42 (dk_at dksX5_bends_0 5 rfl rfl)
theorem dX5_bends_6 : decode cX5_bends 6 = .ok (.getfield 3, 3) := dk_180 0 3 (dk_at dksX5_bends_0 6 rfl rfl)
theorem dX5_bends_9 : decode cX5_bends 9 = .ok (.invokevirtual 78, 3) := dk_182 0 78 (dk_at dksX5_bends_0 9 rfl rfl)
theorem dX5_bends_12 : decode cX5_bends 12 = .ok (.if_icmp .ge 25, 3) := dk_162 0 25 (dk_at dksX5_bends_0 12 rfl rfl)
theorem dX5_bends_15 : decode cX5_bends 15 = .ok (.iload_n 1, 1) := dk_27 (dk_at dksX5_bends_0 15 rfl rfl)
theorem dX5_bends_16 : decode cX5_bends 16 = .ok (.aload_n 0, 1) := dk_42 (dk_at dksX5_bends_0 16 rfl rfl)
theorem dX5_bends_17 : decode cX5_bends 17 = .ok (.iload_n 2, 1) := dk_28 (dk_at dksX5_bends_0 17 rfl rfl)
theorem dX5_bends_18 : decode cX5_bends 18 = .ok (.invokevirtual 138, 3) := dk_182 0 138 (dk_at dksX5_bends_0 18 rfl rfl)
theorem dX5_bends_21 : decode cX5_bends 21 = .ok (.ifCond .eq 7, 3) := dk_153 0 7 (dk_at dksX5_bends_0 21 rfl rfl)
theorem dX5_bends_24 : decode cX5_bends 24 = .ok (.iconst 1, 1) := dk_4 (dk_at dksX5_bends_1 0 rfl rfl)
theorem dX5_bends_25 : decode cX5_bends 25 = .ok (.goto 4, 3) := dk_167 0 4 (dk_at dksX5_bends_1 1 rfl rfl)
theorem dX5_bends_28 : decode cX5_bends 28 = .ok (.iconst 0, 1) := dk_3 (dk_at dksX5_bends_1 4 rfl rfl)
theorem dX5_bends_29 : decode cX5_bends 29 = .ok (.iadd, 1) := dk_96 (dk_at dksX5_bends_1 5 rfl rfl)
theorem dX5_bends_30 : decode cX5_bends 30 = .ok (.istore_n 1, 1) := dk_60 (dk_at dksX5_bends_1 6 rfl rfl)
theorem dX5_bends_31 : decode cX5_bends 31 = .ok (.iinc 2 1, 3) := dk_132 2 1 (dk_at dksX5_bends_1 7 rfl rfl)
theorem dX5_bends_34 : decode cX5_bends 34 = .ok (.goto (-30), 3) := dk_167 255 226 (dk_at dksX5_bends_1 10 rfl rfl)
theorem dX5_bends_37 : decode cX5_bends 37 = .ok (.iload_n 1, 1) := dk_27 (dk_at dksX5_bends_1 13 rfl rfl)
theorem dX5_bends_38 : decode cX5_bends 38 = .ok (.ireturn, 1) := dk_172 (dk_at dksX5_bends_1 14 rfl rfl)
abbrev cX5_isBend : ByteArray := prog_15_method_10_code
def yX5_isBend : MethodName := ⟨RX5, "isBend", "(I)Z"⟩
def dkwX5_isBend_1 : List UInt8 := [180, 0, 40, 182, 0, 134, 172]
abbrev dktX5_isBend_1 : List UInt8 := dkwX5_isBend_1 ++ []
def dkwX5_isBend_0 : List UInt8 := [42, 180, 0, 3, 27, 42, 27, 182, 0, 84, 42, 180, 0, 15, 27, 46, 42, 27, 182, 0, 88, 42]
abbrev dktX5_isBend_0 : List UInt8 := dkwX5_isBend_0 ++ dktX5_isBend_1
theorem dksX5_isBend_0 : cX5_isBend.data.toList.drop 0 = dktX5_isBend_0 := by decide +kernel
theorem dksX5_isBend_1 : cX5_isBend.data.toList.drop 22 = dktX5_isBend_1 := dk_seg dksX5_isBend_0 22 rfl rfl
theorem dX5_isBend_0 : decode cX5_isBend 0 = .ok (.aload_n 0, 1) := dk_42 (dk_at dksX5_isBend_0 0 rfl rfl)
theorem dX5_isBend_1 : decode cX5_isBend 1 = .ok (.getfield 3, 3) := dk_180 0 3 (dk_at dksX5_isBend_0 1 rfl rfl)
theorem dX5_isBend_4 : decode cX5_isBend 4 = .ok (.iload_n 1, 1) := dk_27 (dk_at dksX5_isBend_0 4 rfl rfl)
theorem dX5_isBend_5 : decode cX5_isBend 5 = .ok (.aload_n 0, 1) := dk_42 (dk_at dksX5_isBend_0 5 rfl rfl)
theorem dX5_isBend_6 : decode cX5_isBend 6 = .ok (.iload_n 1, 1) := dk_27 (dk_at dksX5_isBend_0 6 rfl rfl)
theorem dX5_isBend_7 : decode cX5_isBend 7 = .ok (.invokevirtual 84, 3) := dk_182 0 84 (dk_at dksX5_isBend_0 7 rfl rfl)
theorem dX5_isBend_10 : decode cX5_isBend 10 = .ok (.aload_n 0, 1) := dk_42 (dk_at dksX5_isBend_0 10 rfl rfl)
theorem dX5_isBend_11 : decode cX5_isBend 11 = .ok (.getfield 15, 3) := dk_180 0 15 (dk_at dksX5_isBend_0 11 rfl rfl)
theorem dX5_isBend_14 : decode cX5_isBend 14 = .ok (.iload_n 1, 1) := dk_27 (dk_at dksX5_isBend_0 14 rfl rfl)
theorem dX5_isBend_15 : decode cX5_isBend 15 = .ok (.iaload, 1) := dk_46 (dk_at dksX5_isBend_0 15 rfl rfl)
theorem dX5_isBend_16 : decode cX5_isBend 16 = .ok (.aload_n 0, 1) := dk_42 (dk_at dksX5_isBend_0 16 rfl rfl)
theorem dX5_isBend_17 : decode cX5_isBend 17 = .ok (.iload_n 1, 1) := dk_27 (dk_at dksX5_isBend_0 17 rfl rfl)
theorem dX5_isBend_18 : decode cX5_isBend 18 = .ok (.invokevirtual 88, 3) := dk_182 0 88 (dk_at dksX5_isBend_0 18 rfl rfl)
theorem dX5_isBend_21 : decode cX5_isBend 21 = .ok (.aload_n 0, 1) := dk_42 (dk_at dksX5_isBend_0 21 rfl rfl)
theorem dX5_isBend_22 : decode cX5_isBend 22 = .ok (.getfield 40, 3) := dk_180 0 40 (dk_at dksX5_isBend_1 0 rfl rfl)
theorem dX5_isBend_25 : decode cX5_isBend 25 = .ok (.invokevirtual 134, 3) := dk_182 0 134 (dk_at dksX5_isBend_1 3 rfl rfl)
theorem dX5_isBend_28 : decode cX5_isBend 28 = .ok (.ireturn, 1) := dk_172 (dk_at dksX5_isBend_1 6 rfl rfl)
abbrev cX5_before : ByteArray := prog_15_method_4_code
def yX5_before : MethodName := ⟨RX5, "before", "(I)I"⟩
def dkwX5_before_0 : List UInt8 := [42, 180, 0, 15, 3, 27, 4, 100, 184, 0, 72, 46, 172]
abbrev dktX5_before_0 : List UInt8 := dkwX5_before_0 ++ []
theorem dksX5_before_0 : cX5_before.data.toList.drop 0 = dktX5_before_0 := by decide +kernel
theorem dX5_before_0 : decode cX5_before 0 = .ok (.aload_n 0, 1) := dk_42 (dk_at dksX5_before_0 0 rfl rfl)
theorem dX5_before_1 : decode cX5_before 1 = .ok (.getfield 15, 3) := dk_180 0 15 (dk_at dksX5_before_0 1 rfl rfl)
theorem dX5_before_4 : decode cX5_before 4 = .ok (.iconst 0, 1) := dk_3 (dk_at dksX5_before_0 4 rfl rfl)
theorem dX5_before_5 : decode cX5_before 5 = .ok (.iload_n 1, 1) := dk_27 (dk_at dksX5_before_0 5 rfl rfl)
theorem dX5_before_6 : decode cX5_before 6 = .ok (.iconst 1, 1) := dk_4 (dk_at dksX5_before_0 6 rfl rfl)
theorem dX5_before_7 : decode cX5_before 7 = .ok (.isub, 1) := dk_100 (dk_at dksX5_before_0 7 rfl rfl)
theorem dX5_before_8 : decode cX5_before 8 = .ok (.invokestatic 72, 3) := dk_184 0 72 (dk_at dksX5_before_0 8 rfl rfl)
theorem dX5_before_11 : decode cX5_before 11 = .ok (.iaload, 1) := dk_46 (dk_at dksX5_before_0 11 rfl rfl)
theorem dX5_before_12 : decode cX5_before 12 = .ok (.ireturn, 1) := dk_172 (dk_at dksX5_before_0 12 rfl rfl)
abbrev cX5_behind : ByteArray := prog_15_method_5_code
def yX5_behind : MethodName := ⟨RX5, "behind", "(I)I"⟩
def dkwX5_behind_0 : List UInt8 := [42, 180, 0, 15, 42, 180, 0, 3, 182, 0, 78, 4, 100, 27, 4, 96, 184, 0, 81, 46, 172]
abbrev dktX5_behind_0 : List UInt8 := dkwX5_behind_0 ++ []
theorem dksX5_behind_0 : cX5_behind.data.toList.drop 0 = dktX5_behind_0 := by decide +kernel
theorem dX5_behind_0 : decode cX5_behind 0 = .ok (.aload_n 0, 1) := dk_42 (dk_at dksX5_behind_0 0 rfl rfl)
theorem dX5_behind_1 : decode cX5_behind 1 = .ok (.getfield 15, 3) := dk_180 0 15 (dk_at dksX5_behind_0 1 rfl rfl)
theorem dX5_behind_4 : decode cX5_behind 4 = .ok (.aload_n 0, 1) := dk_42 (dk_at dksX5_behind_0 4 rfl rfl)
theorem dX5_behind_5 : decode cX5_behind 5 = .ok (.getfield 3, 3) := dk_180 0 3 (dk_at dksX5_behind_0 5 rfl rfl)
theorem dX5_behind_8 : decode cX5_behind 8 = .ok (.invokevirtual 78, 3) := dk_182 0 78 (dk_at dksX5_behind_0 8 rfl rfl)
theorem dX5_behind_11 : decode cX5_behind 11 = .ok (.iconst 1, 1) := dk_4 (dk_at dksX5_behind_0 11 rfl rfl)
theorem dX5_behind_12 : decode cX5_behind 12 = .ok (.isub, 1) := dk_100 (dk_at dksX5_behind_0 12 rfl rfl)
theorem dX5_behind_13 : decode cX5_behind 13 = .ok (.iload_n 1, 1) := dk_27 (dk_at dksX5_behind_0 13 rfl rfl)
theorem dX5_behind_14 : decode cX5_behind 14 = .ok (.iconst 1, 1) := dk_4 (dk_at dksX5_behind_0 14 rfl rfl)
theorem dX5_behind_15 : decode cX5_behind 15 = .ok (.iadd, 1) := dk_96 (dk_at dksX5_behind_0 15 rfl rfl)
theorem dX5_behind_16 : decode cX5_behind 16 = .ok (.invokestatic 81, 3) := dk_184 0 81 (dk_at dksX5_behind_0 16 rfl rfl)
theorem dX5_behind_19 : decode cX5_behind 19 = .ok (.iaload, 1) := dk_46 (dk_at dksX5_behind_0 19 rfl rfl)
theorem dX5_behind_20 : decode cX5_behind 20 = .ok (.ireturn, 1) := dk_172 (dk_at dksX5_behind_0 20 rfl rfl)
abbrev cX5_turn : ByteArray := prog_15_method_6_code
def yX5_turn : MethodName := ⟨RX5, "turn", "(I)I"⟩
def dkwX5_turn_1 : List UInt8 := [172]
abbrev dktX5_turn_1 : List UInt8 := dkwX5_turn_1 ++ []
def dkwX5_turn_0 : List UInt8 := [42, 180, 0, 3, 27, 42, 27, 182, 0, 84, 42, 180, 0, 15, 27, 46, 42, 27, 182, 0, 88, 182, 0, 91]
abbrev dktX5_turn_0 : List UInt8 := dkwX5_turn_0 ++ dktX5_turn_1
theorem dksX5_turn_0 : cX5_turn.data.toList.drop 0 = dktX5_turn_0 := by decide +kernel
theorem dksX5_turn_1 : cX5_turn.data.toList.drop 24 = dktX5_turn_1 := dk_seg dksX5_turn_0 24 rfl rfl
theorem dX5_turn_0 : decode cX5_turn 0 = .ok (.aload_n 0, 1) := dk_42 (dk_at dksX5_turn_0 0 rfl rfl)
theorem dX5_turn_1 : decode cX5_turn 1 = .ok (.getfield 3, 3) := dk_180 0 3 (dk_at dksX5_turn_0 1 rfl rfl)
theorem dX5_turn_4 : decode cX5_turn 4 = .ok (.iload_n 1, 1) := dk_27 (dk_at dksX5_turn_0 4 rfl rfl)
theorem dX5_turn_5 : decode cX5_turn 5 = .ok (.aload_n 0, 1) := dk_42 (dk_at dksX5_turn_0 5 rfl rfl)
theorem dX5_turn_6 : decode cX5_turn 6 = .ok (.iload_n 1, 1) := dk_27 (dk_at dksX5_turn_0 6 rfl rfl)
theorem dX5_turn_7 : decode cX5_turn 7 = .ok (.invokevirtual 84, 3) := dk_182 0 84 (dk_at dksX5_turn_0 7 rfl rfl)
theorem dX5_turn_10 : decode cX5_turn 10 = .ok (.aload_n 0, 1) := dk_42 (dk_at dksX5_turn_0 10 rfl rfl)
theorem dX5_turn_11 : decode cX5_turn 11 = .ok (.getfield 15, 3) := dk_180 0 15 (dk_at dksX5_turn_0 11 rfl rfl)
theorem dX5_turn_14 : decode cX5_turn 14 = .ok (.iload_n 1, 1) := dk_27 (dk_at dksX5_turn_0 14 rfl rfl)
theorem dX5_turn_15 : decode cX5_turn 15 = .ok (.iaload, 1) := dk_46 (dk_at dksX5_turn_0 15 rfl rfl)
theorem dX5_turn_16 : decode cX5_turn 16 = .ok (.aload_n 0, 1) := dk_42 (dk_at dksX5_turn_0 16 rfl rfl)
theorem dX5_turn_17 : decode cX5_turn 17 = .ok (.iload_n 1, 1) := dk_27 (dk_at dksX5_turn_0 17 rfl rfl)
theorem dX5_turn_18 : decode cX5_turn 18 = .ok (.invokevirtual 88, 3) := dk_182 0 88 (dk_at dksX5_turn_0 18 rfl rfl)
theorem dX5_turn_21 : decode cX5_turn 21 = .ok (.invokevirtual 91, 3) := dk_182 0 91 (dk_at dksX5_turn_0 21 rfl rfl)
theorem dX5_turn_24 : decode cX5_turn 24 = .ok (.ireturn, 1) := dk_172 (dk_at dksX5_turn_1 0 rfl rfl)
abbrev cX5_pay : ByteArray := prog_15_method_8_code
def yX5_pay : MethodName := ⟨RX5, "pay", "(I)I"⟩
def dkwX5_pay_2 : List UInt8 := [28, 172]
abbrev dktX5_pay_2 : List UInt8 := dkwX5_pay_2 ++ []
def dkwX5_pay_1 : List UInt8 := [27, 182, 0, 98, 153, 0, 11, 42, 29, 182, 0, 102, 167, 0, 4, 3, 96, 61, 132, 3, 1, 167, 255, 215]
abbrev dktX5_pay_1 : List UInt8 := dkwX5_pay_1 ++ dktX5_pay_2
def dkwX5_pay_0 : List UInt8 := [3, 61, 3, 62, 29, 42, 180, 0, 3, 182, 0, 60, 162, 0, 36, 28, 42, 180, 0, 3, 29, 182, 0, 64]
abbrev dktX5_pay_0 : List UInt8 := dkwX5_pay_0 ++ dktX5_pay_1
theorem dksX5_pay_0 : cX5_pay.data.toList.drop 0 = dktX5_pay_0 := by decide +kernel
theorem dksX5_pay_1 : cX5_pay.data.toList.drop 24 = dktX5_pay_1 := dk_seg dksX5_pay_0 24 rfl rfl
theorem dksX5_pay_2 : cX5_pay.data.toList.drop 48 = dktX5_pay_2 := dk_seg dksX5_pay_1 24 rfl rfl
theorem dX5_pay_0 : decode cX5_pay 0 = .ok (.iconst 0, 1) := dk_3 (dk_at dksX5_pay_0 0 rfl rfl)
theorem dX5_pay_1 : decode cX5_pay 1 = .ok (.istore_n 2, 1) := dk_61 (dk_at dksX5_pay_0 1 rfl rfl)
theorem dX5_pay_2 : decode cX5_pay 2 = .ok (.iconst 0, 1) := dk_3 (dk_at dksX5_pay_0 2 rfl rfl)
theorem dX5_pay_3 : decode cX5_pay 3 = .ok (.istore_n 3, 1) := dk_62 (dk_at dksX5_pay_0 3 rfl rfl)
theorem dX5_pay_4 : decode cX5_pay 4 = .ok (.iload_n 3, 1) := dk_29 (dk_at dksX5_pay_0 4 rfl rfl)
theorem dX5_pay_5 : decode cX5_pay 5 = .ok (.aload_n 0, 1) := dk_42 (dk_at dksX5_pay_0 5 rfl rfl)
theorem dX5_pay_6 : decode cX5_pay 6 = .ok (.getfield 3, 3) := dk_180 0 3 (dk_at dksX5_pay_0 6 rfl rfl)
theorem dX5_pay_9 : decode cX5_pay 9 = .ok (.invokevirtual 60, 3) := dk_182 0 60 (dk_at dksX5_pay_0 9 rfl rfl)
theorem dX5_pay_12 : decode cX5_pay 12 = .ok (.if_icmp .ge 36, 3) := dk_162 0 36 (dk_at dksX5_pay_0 12 rfl rfl)
theorem dX5_pay_15 : decode cX5_pay 15 = .ok (.iload_n 2, 1) := dk_28 (dk_at dksX5_pay_0 15 rfl rfl)
theorem dX5_pay_16 : decode cX5_pay 16 = .ok (.aload_n 0, 1) := dk_42 (dk_at dksX5_pay_0 16 rfl rfl)
theorem dX5_pay_17 : decode cX5_pay 17 = .ok (.getfield 3, 3) := dk_180 0 3 (dk_at dksX5_pay_0 17 rfl rfl)
theorem dX5_pay_20 : decode cX5_pay 20 = .ok (.iload_n 3, 1) := dk_29 (dk_at dksX5_pay_0 20 rfl rfl)
theorem dX5_pay_21 : decode cX5_pay 21 = .ok (.invokevirtual 64, 3) := dk_182 0 64 (dk_at dksX5_pay_0 21 rfl rfl)
theorem dX5_pay_24 : decode cX5_pay 24 = .ok (.iload_n 1, 1) := dk_27 (dk_at dksX5_pay_1 0 rfl rfl)
theorem dX5_pay_25 : decode cX5_pay 25 = .ok (.invokevirtual 98, 3) := dk_182 0 98 (dk_at dksX5_pay_1 1 rfl rfl)
theorem dX5_pay_28 : decode cX5_pay 28 = .ok (.ifCond .eq 11, 3) := dk_153 0 11 (dk_at dksX5_pay_1 4 rfl rfl)
theorem dX5_pay_31 : decode cX5_pay 31 = .ok (.aload_n 0, 1) := dk_42 (dk_at dksX5_pay_1 7 rfl rfl)
theorem dX5_pay_32 : decode cX5_pay 32 = .ok (.iload_n 3, 1) := dk_29 (dk_at dksX5_pay_1 8 rfl rfl)
theorem dX5_pay_33 : decode cX5_pay 33 = .ok (.invokevirtual 102, 3) := dk_182 0 102 (dk_at dksX5_pay_1 9 rfl rfl)
theorem dX5_pay_36 : decode cX5_pay 36 = .ok (.goto 4, 3) := dk_167 0 4 (dk_at dksX5_pay_1 12 rfl rfl)
theorem dX5_pay_39 : decode cX5_pay 39 = .ok (.iconst 0, 1) := dk_3 (dk_at dksX5_pay_1 15 rfl rfl)
theorem dX5_pay_40 : decode cX5_pay 40 = .ok (.iadd, 1) := dk_96 (dk_at dksX5_pay_1 16 rfl rfl)
theorem dX5_pay_41 : decode cX5_pay 41 = .ok (.istore_n 2, 1) := dk_61 (dk_at dksX5_pay_1 17 rfl rfl)
theorem dX5_pay_42 : decode cX5_pay 42 = .ok (.iinc 3 1, 3) := dk_132 3 1 (dk_at dksX5_pay_1 18 rfl rfl)
theorem dX5_pay_45 : decode cX5_pay 45 = .ok (.goto (-41), 3) := dk_167 255 215 (dk_at dksX5_pay_1 21 rfl rfl)
theorem dX5_pay_48 : decode cX5_pay 48 = .ok (.iload_n 2, 1) := dk_28 (dk_at dksX5_pay_2 0 rfl rfl)
theorem dX5_pay_49 : decode cX5_pay 49 = .ok (.ireturn, 1) := dk_172 (dk_at dksX5_pay_2 1 rfl rfl)
abbrev cX5_offer : ByteArray := prog_15_method_7_code
def yX5_offer : MethodName := ⟨RX5, "offer", "(I)I"⟩
def dkwX5_offer_1 : List UInt8 := [180, 0, 95, 161, 0, 17, 42, 180, 0, 3, 27, 182, 0, 64, 180, 0, 95, 167, 0, 4, 3, 172]
abbrev dktX5_offer_1 : List UInt8 := dkwX5_offer_1 ++ []
def dkwX5_offer_0 : List UInt8 := [42, 180, 0, 22, 27, 51, 153, 0, 37, 42, 180, 0, 19, 27, 46, 42, 180, 0, 3, 27, 182, 0, 64]
abbrev dktX5_offer_0 : List UInt8 := dkwX5_offer_0 ++ dktX5_offer_1
theorem dksX5_offer_0 : cX5_offer.data.toList.drop 0 = dktX5_offer_0 := by decide +kernel
theorem dksX5_offer_1 : cX5_offer.data.toList.drop 23 = dktX5_offer_1 := dk_seg dksX5_offer_0 23 rfl rfl
theorem dX5_offer_0 : decode cX5_offer 0 = .ok (.aload_n 0, 1) := dk_42 (dk_at dksX5_offer_0 0 rfl rfl)
theorem dX5_offer_1 : decode cX5_offer 1 = .ok (.getfield 22, 3) := dk_180 0 22 (dk_at dksX5_offer_0 1 rfl rfl)
theorem dX5_offer_4 : decode cX5_offer 4 = .ok (.iload_n 1, 1) := dk_27 (dk_at dksX5_offer_0 4 rfl rfl)
theorem dX5_offer_5 : decode cX5_offer 5 = .ok (.baload, 1) := dk_51 (dk_at dksX5_offer_0 5 rfl rfl)
theorem dX5_offer_6 : decode cX5_offer 6 = .ok (.ifCond .eq 37, 3) := dk_153 0 37 (dk_at dksX5_offer_0 6 rfl rfl)
theorem dX5_offer_9 : decode cX5_offer 9 = .ok (.aload_n 0, 1) := dk_42 (dk_at dksX5_offer_0 9 rfl rfl)
theorem dX5_offer_10 : decode cX5_offer 10 = .ok (.getfield 19, 3) := dk_180 0 19 (dk_at dksX5_offer_0 10 rfl rfl)
theorem dX5_offer_13 : decode cX5_offer 13 = .ok (.iload_n 1, 1) := dk_27 (dk_at dksX5_offer_0 13 rfl rfl)
theorem dX5_offer_14 : decode cX5_offer 14 = .ok (.iaload, 1) := dk_46 (dk_at dksX5_offer_0 14 rfl rfl)
theorem dX5_offer_15 : decode cX5_offer 15 = .ok (.aload_n 0, 1) := dk_42 (dk_at dksX5_offer_0 15 rfl rfl)
theorem dX5_offer_16 : decode cX5_offer 16 = .ok (.getfield 3, 3) := dk_180 0 3 (dk_at dksX5_offer_0 16 rfl rfl)
theorem dX5_offer_19 : decode cX5_offer 19 = .ok (.iload_n 1, 1) := dk_27 (dk_at dksX5_offer_0 19 rfl rfl)
theorem dX5_offer_20 : decode cX5_offer 20 = .ok (.invokevirtual 64, 3) := dk_182 0 64 (dk_at dksX5_offer_0 20 rfl rfl)
theorem dX5_offer_23 : decode cX5_offer 23 = .ok (.getfield 95, 3) := dk_180 0 95 (dk_at dksX5_offer_1 0 rfl rfl)
theorem dX5_offer_26 : decode cX5_offer 26 = .ok (.if_icmp .lt 17, 3) := dk_161 0 17 (dk_at dksX5_offer_1 3 rfl rfl)
theorem dX5_offer_29 : decode cX5_offer 29 = .ok (.aload_n 0, 1) := dk_42 (dk_at dksX5_offer_1 6 rfl rfl)
theorem dX5_offer_30 : decode cX5_offer 30 = .ok (.getfield 3, 3) := dk_180 0 3 (dk_at dksX5_offer_1 7 rfl rfl)
theorem dX5_offer_33 : decode cX5_offer 33 = .ok (.iload_n 1, 1) := dk_27 (dk_at dksX5_offer_1 10 rfl rfl)
theorem dX5_offer_34 : decode cX5_offer 34 = .ok (.invokevirtual 64, 3) := dk_182 0 64 (dk_at dksX5_offer_1 11 rfl rfl)
theorem dX5_offer_37 : decode cX5_offer 37 = .ok (.getfield 95, 3) := dk_180 0 95 (dk_at dksX5_offer_1 14 rfl rfl)
theorem dX5_offer_40 : decode cX5_offer 40 = .ok (.goto 4, 3) := dk_167 0 4 (dk_at dksX5_offer_1 17 rfl rfl)
theorem dX5_offer_43 : decode cX5_offer 43 = .ok (.iconst 0, 1) := dk_3 (dk_at dksX5_offer_1 20 rfl rfl)
theorem dX5_offer_44 : decode cX5_offer 44 = .ok (.ireturn, 1) := dk_172 (dk_at dksX5_offer_1 21 rfl rfl)
abbrev cX5_eats : ByteArray := prog_15_method_9_code
def yX5_eats : MethodName := ⟨RX5, "eats", "(II)J"⟩
def dkwX5_eats_9 : List UInt8 := [180, 0, 105, 42, 180, 0, 3, 180, 0, 118, 182, 0, 128, 173]
abbrev dktX5_eats_9 : List UInt8 := dkwX5_eats_9 ++ []
def dkwX5_eats_8 : List UInt8 := [180, 0, 122, 16, 7, 42, 180, 0, 31, 27, 50, 28, 46, 133, 80, 42, 180, 0, 3, 180, 0, 50]
abbrev dktX5_eats_8 : List UInt8 := dkwX5_eats_8 ++ dktX5_eats_9
def dkwX5_eats_7 : List UInt8 := [180, 0, 118, 180, 0, 122, 16, 6, 42, 27, 182, 0, 109, 133, 80, 42, 180, 0, 3, 180, 0, 118]
abbrev dktX5_eats_7 : List UInt8 := dkwX5_eats_7 ++ dktX5_eats_8
def dkwX5_eats_6 : List UInt8 := [180, 0, 3, 180, 0, 118, 180, 0, 122, 8, 42, 180, 0, 28, 27, 50, 28, 46, 133, 80, 42, 180, 0, 3]
abbrev dktX5_eats_6 : List UInt8 := dkwX5_eats_6 ++ dktX5_eats_7
def dkwX5_eats_5 : List UInt8 := [180, 0, 118, 180, 0, 122, 7, 42, 180, 0, 3, 180, 0, 50, 180, 0, 115, 27, 50, 28, 46, 133, 80, 42]
abbrev dktX5_eats_5 : List UInt8 := dkwX5_eats_5 ++ dktX5_eats_6
def dkwX5_eats_4 : List UInt8 := [80, 42, 180, 0, 3, 180, 0, 118, 180, 0, 122, 6, 42, 180, 0, 40, 133, 80, 42, 180, 0, 3]
abbrev dktX5_eats_4 : List UInt8 := dkwX5_eats_4 ++ dktX5_eats_5
def dkwX5_eats_3 : List UInt8 := [180, 0, 122, 4, 28, 133, 80, 42, 180, 0, 3, 180, 0, 118, 180, 0, 122, 5, 42, 27, 182, 0, 112, 133]
abbrev dktX5_eats_3 : List UInt8 := dkwX5_eats_3 ++ dktX5_eats_4
def dkwX5_eats_2 : List UInt8 := [133, 173, 42, 180, 0, 3, 180, 0, 118, 180, 0, 122, 3, 27, 133, 80, 42, 180, 0, 3, 180, 0, 118]
abbrev dktX5_eats_2 : List UInt8 := dkwX5_eats_2 ++ dktX5_eats_3
def dkwX5_eats_1 : List UInt8 := [42, 180, 0, 3, 180, 0, 50, 180, 0, 115, 27, 50, 28, 46, 100, 42, 180, 0, 28, 27, 50, 28, 46, 100]
abbrev dktX5_eats_1 : List UInt8 := dkwX5_eats_1 ++ dktX5_eats_2
def dkwX5_eats_0 : List UInt8 := [42, 180, 0, 3, 180, 0, 50, 180, 0, 105, 199, 0, 40, 42, 27, 182, 0, 109, 42, 27, 182, 0, 112, 96]
abbrev dktX5_eats_0 : List UInt8 := dkwX5_eats_0 ++ dktX5_eats_1
theorem dksX5_eats_0 : cX5_eats.data.toList.drop 0 = dktX5_eats_0 := by decide +kernel
theorem dksX5_eats_1 : cX5_eats.data.toList.drop 24 = dktX5_eats_1 := dk_seg dksX5_eats_0 24 rfl rfl
theorem dksX5_eats_2 : cX5_eats.data.toList.drop 48 = dktX5_eats_2 := dk_seg dksX5_eats_1 24 rfl rfl
theorem dksX5_eats_3 : cX5_eats.data.toList.drop 71 = dktX5_eats_3 := dk_seg dksX5_eats_2 23 rfl rfl
theorem dksX5_eats_4 : cX5_eats.data.toList.drop 95 = dktX5_eats_4 := dk_seg dksX5_eats_3 24 rfl rfl
theorem dksX5_eats_5 : cX5_eats.data.toList.drop 117 = dktX5_eats_5 := dk_seg dksX5_eats_4 22 rfl rfl
theorem dksX5_eats_6 : cX5_eats.data.toList.drop 141 = dktX5_eats_6 := dk_seg dksX5_eats_5 24 rfl rfl
theorem dksX5_eats_7 : cX5_eats.data.toList.drop 165 = dktX5_eats_7 := dk_seg dksX5_eats_6 24 rfl rfl
theorem dksX5_eats_8 : cX5_eats.data.toList.drop 187 = dktX5_eats_8 := dk_seg dksX5_eats_7 22 rfl rfl
theorem dksX5_eats_9 : cX5_eats.data.toList.drop 209 = dktX5_eats_9 := dk_seg dksX5_eats_8 22 rfl rfl
theorem dX5_eats_0 : decode cX5_eats 0 = .ok (.aload_n 0, 1) := dk_42 (dk_at dksX5_eats_0 0 rfl rfl)
theorem dX5_eats_1 : decode cX5_eats 1 = .ok (.getfield 3, 3) := dk_180 0 3 (dk_at dksX5_eats_0 1 rfl rfl)
theorem dX5_eats_4 : decode cX5_eats 4 = .ok (.getfield 50, 3) := dk_180 0 50 (dk_at dksX5_eats_0 4 rfl rfl)
theorem dX5_eats_7 : decode cX5_eats 7 = .ok (.getfield 105, 3) := dk_180 0 105 (dk_at dksX5_eats_0 7 rfl rfl)
theorem dX5_eats_10 : decode cX5_eats 10 = .ok (.ifnonnull 40, 3) := dk_199 0 40 (dk_at dksX5_eats_0 10 rfl rfl)
theorem dX5_eats_13 : decode cX5_eats 13 = .ok (.aload_n 0, 1) := dk_42 (dk_at dksX5_eats_0 13 rfl rfl)
theorem dX5_eats_14 : decode cX5_eats 14 = .ok (.iload_n 1, 1) := dk_27 (dk_at dksX5_eats_0 14 rfl rfl)
theorem dX5_eats_15 : decode cX5_eats 15 = .ok (.invokevirtual 109, 3) := dk_182 0 109 (dk_at dksX5_eats_0 15 rfl rfl)
theorem dX5_eats_18 : decode cX5_eats 18 = .ok (.aload_n 0, 1) := dk_42 (dk_at dksX5_eats_0 18 rfl rfl)
theorem dX5_eats_19 : decode cX5_eats 19 = .ok (.iload_n 1, 1) := dk_27 (dk_at dksX5_eats_0 19 rfl rfl)
theorem dX5_eats_20 : decode cX5_eats 20 = .ok (.invokevirtual 112, 3) := dk_182 0 112 (dk_at dksX5_eats_0 20 rfl rfl)
theorem dX5_eats_23 : decode cX5_eats 23 = .ok (.iadd, 1) := dk_96 (dk_at dksX5_eats_0 23 rfl rfl)
theorem dX5_eats_24 : decode cX5_eats 24 = .ok (.aload_n 0, 1) := dk_42 (dk_at dksX5_eats_1 0 rfl rfl)
theorem dX5_eats_25 : decode cX5_eats 25 = .ok (.getfield 3, 3) := dk_180 0 3 (dk_at dksX5_eats_1 1 rfl rfl)
theorem dX5_eats_28 : decode cX5_eats 28 = .ok (.getfield 50, 3) := dk_180 0 50 (dk_at dksX5_eats_1 4 rfl rfl)
theorem dX5_eats_31 : decode cX5_eats 31 = .ok (.getfield 115, 3) := dk_180 0 115 (dk_at dksX5_eats_1 7 rfl rfl)
theorem dX5_eats_34 : decode cX5_eats 34 = .ok (.iload_n 1, 1) := dk_27 (dk_at dksX5_eats_1 10 rfl rfl)
theorem dX5_eats_35 : decode cX5_eats 35 = .ok (.aaload, 1) := dk_50 (dk_at dksX5_eats_1 11 rfl rfl)
theorem dX5_eats_36 : decode cX5_eats 36 = .ok (.iload_n 2, 1) := dk_28 (dk_at dksX5_eats_1 12 rfl rfl)
theorem dX5_eats_37 : decode cX5_eats 37 = .ok (.iaload, 1) := dk_46 (dk_at dksX5_eats_1 13 rfl rfl)
theorem dX5_eats_38 : decode cX5_eats 38 = .ok (.isub, 1) := dk_100 (dk_at dksX5_eats_1 14 rfl rfl)
theorem dX5_eats_39 : decode cX5_eats 39 = .ok (.aload_n 0, 1) := dk_42 (dk_at dksX5_eats_1 15 rfl rfl)
theorem dX5_eats_40 : decode cX5_eats 40 = .ok (.getfield 28, 3) := dk_180 0 28 (dk_at dksX5_eats_1 16 rfl rfl)
theorem dX5_eats_43 : decode cX5_eats 43 = .ok (.iload_n 1, 1) := dk_27 (dk_at dksX5_eats_1 19 rfl rfl)
theorem dX5_eats_44 : decode cX5_eats 44 = .ok (.aaload, 1) := dk_50 (dk_at dksX5_eats_1 20 rfl rfl)
theorem dX5_eats_45 : decode cX5_eats 45 = .ok (.iload_n 2, 1) := dk_28 (dk_at dksX5_eats_1 21 rfl rfl)
theorem dX5_eats_46 : decode cX5_eats 46 = .ok (.iaload, 1) := dk_46 (dk_at dksX5_eats_1 22 rfl rfl)
theorem dX5_eats_47 : decode cX5_eats 47 = .ok (.isub, 1) := dk_100 (dk_at dksX5_eats_1 23 rfl rfl)
theorem dX5_eats_48 : decode cX5_eats 48 = .ok (.i2l, 1) := dk_133 (dk_at dksX5_eats_2 0 rfl rfl)
theorem dX5_eats_49 : decode cX5_eats 49 = .ok (.lreturn, 1) := dk_173 (dk_at dksX5_eats_2 1 rfl rfl)
theorem dX5_eats_50 : decode cX5_eats 50 = .ok (.aload_n 0, 1) := dk_42 (dk_at dksX5_eats_2 2 rfl rfl)
theorem dX5_eats_51 : decode cX5_eats 51 = .ok (.getfield 3, 3) := dk_180 0 3 (dk_at dksX5_eats_2 3 rfl rfl)
theorem dX5_eats_54 : decode cX5_eats 54 = .ok (.getfield 118, 3) := dk_180 0 118 (dk_at dksX5_eats_2 6 rfl rfl)
theorem dX5_eats_57 : decode cX5_eats 57 = .ok (.getfield 122, 3) := dk_180 0 122 (dk_at dksX5_eats_2 9 rfl rfl)
theorem dX5_eats_60 : decode cX5_eats 60 = .ok (.iconst 0, 1) := dk_3 (dk_at dksX5_eats_2 12 rfl rfl)
theorem dX5_eats_61 : decode cX5_eats 61 = .ok (.iload_n 1, 1) := dk_27 (dk_at dksX5_eats_2 13 rfl rfl)
theorem dX5_eats_62 : decode cX5_eats 62 = .ok (.i2l, 1) := dk_133 (dk_at dksX5_eats_2 14 rfl rfl)
theorem dX5_eats_63 : decode cX5_eats 63 = .ok (.lastore, 1) := dk_80 (dk_at dksX5_eats_2 15 rfl rfl)
theorem dX5_eats_64 : decode cX5_eats 64 = .ok (.aload_n 0, 1) := dk_42 (dk_at dksX5_eats_2 16 rfl rfl)
theorem dX5_eats_65 : decode cX5_eats 65 = .ok (.getfield 3, 3) := dk_180 0 3 (dk_at dksX5_eats_2 17 rfl rfl)
theorem dX5_eats_68 : decode cX5_eats 68 = .ok (.getfield 118, 3) := dk_180 0 118 (dk_at dksX5_eats_2 20 rfl rfl)
theorem dX5_eats_71 : decode cX5_eats 71 = .ok (.getfield 122, 3) := dk_180 0 122 (dk_at dksX5_eats_3 0 rfl rfl)
theorem dX5_eats_74 : decode cX5_eats 74 = .ok (.iconst 1, 1) := dk_4 (dk_at dksX5_eats_3 3 rfl rfl)
theorem dX5_eats_75 : decode cX5_eats 75 = .ok (.iload_n 2, 1) := dk_28 (dk_at dksX5_eats_3 4 rfl rfl)
theorem dX5_eats_76 : decode cX5_eats 76 = .ok (.i2l, 1) := dk_133 (dk_at dksX5_eats_3 5 rfl rfl)
theorem dX5_eats_77 : decode cX5_eats 77 = .ok (.lastore, 1) := dk_80 (dk_at dksX5_eats_3 6 rfl rfl)
theorem dX5_eats_78 : decode cX5_eats 78 = .ok (.aload_n 0, 1) := dk_42 (dk_at dksX5_eats_3 7 rfl rfl)
theorem dX5_eats_79 : decode cX5_eats 79 = .ok (.getfield 3, 3) := dk_180 0 3 (dk_at dksX5_eats_3 8 rfl rfl)
theorem dX5_eats_82 : decode cX5_eats 82 = .ok (.getfield 118, 3) := dk_180 0 118 (dk_at dksX5_eats_3 11 rfl rfl)
theorem dX5_eats_85 : decode cX5_eats 85 = .ok (.getfield 122, 3) := dk_180 0 122 (dk_at dksX5_eats_3 14 rfl rfl)
theorem dX5_eats_88 : decode cX5_eats 88 = .ok (.iconst 2, 1) := dk_5 (dk_at dksX5_eats_3 17 rfl rfl)
theorem dX5_eats_89 : decode cX5_eats 89 = .ok (.aload_n 0, 1) := dk_42 (dk_at dksX5_eats_3 18 rfl rfl)
theorem dX5_eats_90 : decode cX5_eats 90 = .ok (.iload_n 1, 1) := dk_27 (dk_at dksX5_eats_3 19 rfl rfl)
theorem dX5_eats_91 : decode cX5_eats 91 = .ok (.invokevirtual 112, 3) := dk_182 0 112 (dk_at dksX5_eats_3 20 rfl rfl)
theorem dX5_eats_94 : decode cX5_eats 94 = .ok (.i2l, 1) := dk_133 (dk_at dksX5_eats_3 23 rfl rfl)
theorem dX5_eats_95 : decode cX5_eats 95 = .ok (.lastore, 1) := dk_80 (dk_at dksX5_eats_4 0 rfl rfl)
theorem dX5_eats_96 : decode cX5_eats 96 = .ok (.aload_n 0, 1) := dk_42 (dk_at dksX5_eats_4 1 rfl rfl)
theorem dX5_eats_97 : decode cX5_eats 97 = .ok (.getfield 3, 3) := dk_180 0 3 (dk_at dksX5_eats_4 2 rfl rfl)
theorem dX5_eats_100 : decode cX5_eats 100 = .ok (.getfield 118, 3) := dk_180 0 118 (dk_at dksX5_eats_4 5 rfl rfl)
theorem dX5_eats_103 : decode cX5_eats 103 = .ok (.getfield 122, 3) := dk_180 0 122 (dk_at dksX5_eats_4 8 rfl rfl)
theorem dX5_eats_106 : decode cX5_eats 106 = .ok (.iconst 3, 1) := dk_6 (dk_at dksX5_eats_4 11 rfl rfl)
theorem dX5_eats_107 : decode cX5_eats 107 = .ok (.aload_n 0, 1) := dk_42 (dk_at dksX5_eats_4 12 rfl rfl)
theorem dX5_eats_108 : decode cX5_eats 108 = .ok (.getfield 40, 3) := dk_180 0 40 (dk_at dksX5_eats_4 13 rfl rfl)
theorem dX5_eats_111 : decode cX5_eats 111 = .ok (.i2l, 1) := dk_133 (dk_at dksX5_eats_4 16 rfl rfl)
theorem dX5_eats_112 : decode cX5_eats 112 = .ok (.lastore, 1) := dk_80 (dk_at dksX5_eats_4 17 rfl rfl)
theorem dX5_eats_113 : decode cX5_eats 113 = .ok (.aload_n 0, 1) := dk_42 (dk_at dksX5_eats_4 18 rfl rfl)
theorem dX5_eats_114 : decode cX5_eats 114 = .ok (.getfield 3, 3) := dk_180 0 3 (dk_at dksX5_eats_4 19 rfl rfl)
theorem dX5_eats_117 : decode cX5_eats 117 = .ok (.getfield 118, 3) := dk_180 0 118 (dk_at dksX5_eats_5 0 rfl rfl)
theorem dX5_eats_120 : decode cX5_eats 120 = .ok (.getfield 122, 3) := dk_180 0 122 (dk_at dksX5_eats_5 3 rfl rfl)
theorem dX5_eats_123 : decode cX5_eats 123 = .ok (.iconst 4, 1) := dk_7 (dk_at dksX5_eats_5 6 rfl rfl)
theorem dX5_eats_124 : decode cX5_eats 124 = .ok (.aload_n 0, 1) := dk_42 (dk_at dksX5_eats_5 7 rfl rfl)
theorem dX5_eats_125 : decode cX5_eats 125 = .ok (.getfield 3, 3) := dk_180 0 3 (dk_at dksX5_eats_5 8 rfl rfl)
theorem dX5_eats_128 : decode cX5_eats 128 = .ok (.getfield 50, 3) := dk_180 0 50 (dk_at dksX5_eats_5 11 rfl rfl)
theorem dX5_eats_131 : decode cX5_eats 131 = .ok (.getfield 115, 3) := dk_180 0 115 (dk_at dksX5_eats_5 14 rfl rfl)
theorem dX5_eats_134 : decode cX5_eats 134 = .ok (.iload_n 1, 1) := dk_27 (dk_at dksX5_eats_5 17 rfl rfl)
theorem dX5_eats_135 : decode cX5_eats 135 = .ok (.aaload, 1) := dk_50 (dk_at dksX5_eats_5 18 rfl rfl)
theorem dX5_eats_136 : decode cX5_eats 136 = .ok (.iload_n 2, 1) := dk_28 (dk_at dksX5_eats_5 19 rfl rfl)
theorem dX5_eats_137 : decode cX5_eats 137 = .ok (.iaload, 1) := dk_46 (dk_at dksX5_eats_5 20 rfl rfl)
theorem dX5_eats_138 : decode cX5_eats 138 = .ok (.i2l, 1) := dk_133 (dk_at dksX5_eats_5 21 rfl rfl)
theorem dX5_eats_139 : decode cX5_eats 139 = .ok (.lastore, 1) := dk_80 (dk_at dksX5_eats_5 22 rfl rfl)
theorem dX5_eats_140 : decode cX5_eats 140 = .ok (.aload_n 0, 1) := dk_42 (dk_at dksX5_eats_5 23 rfl rfl)
theorem dX5_eats_141 : decode cX5_eats 141 = .ok (.getfield 3, 3) := dk_180 0 3 (dk_at dksX5_eats_6 0 rfl rfl)
theorem dX5_eats_144 : decode cX5_eats 144 = .ok (.getfield 118, 3) := dk_180 0 118 (dk_at dksX5_eats_6 3 rfl rfl)
theorem dX5_eats_147 : decode cX5_eats 147 = .ok (.getfield 122, 3) := dk_180 0 122 (dk_at dksX5_eats_6 6 rfl rfl)
theorem dX5_eats_150 : decode cX5_eats 150 = .ok (.iconst 5, 1) := dk_8 (dk_at dksX5_eats_6 9 rfl rfl)
theorem dX5_eats_151 : decode cX5_eats 151 = .ok (.aload_n 0, 1) := dk_42 (dk_at dksX5_eats_6 10 rfl rfl)
theorem dX5_eats_152 : decode cX5_eats 152 = .ok (.getfield 28, 3) := dk_180 0 28 (dk_at dksX5_eats_6 11 rfl rfl)
theorem dX5_eats_155 : decode cX5_eats 155 = .ok (.iload_n 1, 1) := dk_27 (dk_at dksX5_eats_6 14 rfl rfl)
theorem dX5_eats_156 : decode cX5_eats 156 = .ok (.aaload, 1) := dk_50 (dk_at dksX5_eats_6 15 rfl rfl)
theorem dX5_eats_157 : decode cX5_eats 157 = .ok (.iload_n 2, 1) := dk_28 (dk_at dksX5_eats_6 16 rfl rfl)
theorem dX5_eats_158 : decode cX5_eats 158 = .ok (.iaload, 1) := dk_46 (dk_at dksX5_eats_6 17 rfl rfl)
theorem dX5_eats_159 : decode cX5_eats 159 = .ok (.i2l, 1) := dk_133 (dk_at dksX5_eats_6 18 rfl rfl)
theorem dX5_eats_160 : decode cX5_eats 160 = .ok (.lastore, 1) := dk_80 (dk_at dksX5_eats_6 19 rfl rfl)
theorem dX5_eats_161 : decode cX5_eats 161 = .ok (.aload_n 0, 1) := dk_42 (dk_at dksX5_eats_6 20 rfl rfl)
theorem dX5_eats_162 : decode cX5_eats 162 = .ok (.getfield 3, 3) := dk_180 0 3 (dk_at dksX5_eats_6 21 rfl rfl)
theorem dX5_eats_165 : decode cX5_eats 165 = .ok (.getfield 118, 3) := dk_180 0 118 (dk_at dksX5_eats_7 0 rfl rfl)
theorem dX5_eats_168 : decode cX5_eats 168 = .ok (.getfield 122, 3) := dk_180 0 122 (dk_at dksX5_eats_7 3 rfl rfl)
theorem dX5_eats_171 : decode cX5_eats 171 = .ok (.bipush 6, 2) := dk_16 6 (dk_at dksX5_eats_7 6 rfl rfl)
theorem dX5_eats_173 : decode cX5_eats 173 = .ok (.aload_n 0, 1) := dk_42 (dk_at dksX5_eats_7 8 rfl rfl)
theorem dX5_eats_174 : decode cX5_eats 174 = .ok (.iload_n 1, 1) := dk_27 (dk_at dksX5_eats_7 9 rfl rfl)
theorem dX5_eats_175 : decode cX5_eats 175 = .ok (.invokevirtual 109, 3) := dk_182 0 109 (dk_at dksX5_eats_7 10 rfl rfl)
theorem dX5_eats_178 : decode cX5_eats 178 = .ok (.i2l, 1) := dk_133 (dk_at dksX5_eats_7 13 rfl rfl)
theorem dX5_eats_179 : decode cX5_eats 179 = .ok (.lastore, 1) := dk_80 (dk_at dksX5_eats_7 14 rfl rfl)
theorem dX5_eats_180 : decode cX5_eats 180 = .ok (.aload_n 0, 1) := dk_42 (dk_at dksX5_eats_7 15 rfl rfl)
theorem dX5_eats_181 : decode cX5_eats 181 = .ok (.getfield 3, 3) := dk_180 0 3 (dk_at dksX5_eats_7 16 rfl rfl)
theorem dX5_eats_184 : decode cX5_eats 184 = .ok (.getfield 118, 3) := dk_180 0 118 (dk_at dksX5_eats_7 19 rfl rfl)
theorem dX5_eats_187 : decode cX5_eats 187 = .ok (.getfield 122, 3) := dk_180 0 122 (dk_at dksX5_eats_8 0 rfl rfl)
theorem dX5_eats_190 : decode cX5_eats 190 = .ok (.bipush 7, 2) := dk_16 7 (dk_at dksX5_eats_8 3 rfl rfl)
theorem dX5_eats_192 : decode cX5_eats 192 = .ok (.aload_n 0, 1) := dk_42 (dk_at dksX5_eats_8 5 rfl rfl)
theorem dX5_eats_193 : decode cX5_eats 193 = .ok (.getfield 31, 3) := dk_180 0 31 (dk_at dksX5_eats_8 6 rfl rfl)
theorem dX5_eats_196 : decode cX5_eats 196 = .ok (.iload_n 1, 1) := dk_27 (dk_at dksX5_eats_8 9 rfl rfl)
theorem dX5_eats_197 : decode cX5_eats 197 = .ok (.aaload, 1) := dk_50 (dk_at dksX5_eats_8 10 rfl rfl)
theorem dX5_eats_198 : decode cX5_eats 198 = .ok (.iload_n 2, 1) := dk_28 (dk_at dksX5_eats_8 11 rfl rfl)
theorem dX5_eats_199 : decode cX5_eats 199 = .ok (.iaload, 1) := dk_46 (dk_at dksX5_eats_8 12 rfl rfl)
theorem dX5_eats_200 : decode cX5_eats 200 = .ok (.i2l, 1) := dk_133 (dk_at dksX5_eats_8 13 rfl rfl)
theorem dX5_eats_201 : decode cX5_eats 201 = .ok (.lastore, 1) := dk_80 (dk_at dksX5_eats_8 14 rfl rfl)
theorem dX5_eats_202 : decode cX5_eats 202 = .ok (.aload_n 0, 1) := dk_42 (dk_at dksX5_eats_8 15 rfl rfl)
theorem dX5_eats_203 : decode cX5_eats 203 = .ok (.getfield 3, 3) := dk_180 0 3 (dk_at dksX5_eats_8 16 rfl rfl)
theorem dX5_eats_206 : decode cX5_eats 206 = .ok (.getfield 50, 3) := dk_180 0 50 (dk_at dksX5_eats_8 19 rfl rfl)
theorem dX5_eats_209 : decode cX5_eats 209 = .ok (.getfield 105, 3) := dk_180 0 105 (dk_at dksX5_eats_9 0 rfl rfl)
theorem dX5_eats_212 : decode cX5_eats 212 = .ok (.aload_n 0, 1) := dk_42 (dk_at dksX5_eats_9 3 rfl rfl)
theorem dX5_eats_213 : decode cX5_eats 213 = .ok (.getfield 3, 3) := dk_180 0 3 (dk_at dksX5_eats_9 4 rfl rfl)
theorem dX5_eats_216 : decode cX5_eats 216 = .ok (.getfield 118, 3) := dk_180 0 118 (dk_at dksX5_eats_9 7 rfl rfl)
theorem dX5_eats_219 : decode cX5_eats 219 = .ok (.invokevirtual 128, 3) := dk_182 0 128 (dk_at dksX5_eats_9 10 rfl rfl)
theorem dX5_eats_222 : decode cX5_eats 222 = .ok (.lreturn, 1) := dk_173 (dk_at dksX5_eats_9 13 rfl rfl)
abbrev cX5_bendsOf : ByteArray := prog_15_method_12_code
def yX5_bendsOf : MethodName := ⟨RX5, "bendsOf", "(I)I"⟩
def dkwX5_bendsOf_2 : List UInt8 := [132, 3, 1, 167, 255, 222, 28, 172]
abbrev dktX5_bendsOf_2 : List UInt8 := dkwX5_bendsOf_2 ++ []
def dkwX5_bendsOf_1 : List UInt8 := [180, 0, 144, 163, 0, 25, 28, 42, 29, 182, 0, 138, 153, 0, 7, 4, 167, 0, 4, 3, 96, 61]
abbrev dktX5_bendsOf_1 : List UInt8 := dkwX5_bendsOf_1 ++ dktX5_bendsOf_2
def dkwX5_bendsOf_0 : List UInt8 := [3, 61, 42, 180, 0, 3, 27, 182, 0, 64, 180, 0, 141, 62, 29, 42, 180, 0, 3, 27, 182, 0, 64]
abbrev dktX5_bendsOf_0 : List UInt8 := dkwX5_bendsOf_0 ++ dktX5_bendsOf_1
theorem dksX5_bendsOf_0 : cX5_bendsOf.data.toList.drop 0 = dktX5_bendsOf_0 := by decide +kernel
theorem dksX5_bendsOf_1 : cX5_bendsOf.data.toList.drop 23 = dktX5_bendsOf_1 := dk_seg dksX5_bendsOf_0 23 rfl rfl
theorem dksX5_bendsOf_2 : cX5_bendsOf.data.toList.drop 45 = dktX5_bendsOf_2 := dk_seg dksX5_bendsOf_1 22 rfl rfl
theorem dX5_bendsOf_0 : decode cX5_bendsOf 0 = .ok (.iconst 0, 1) := dk_3 (dk_at dksX5_bendsOf_0 0 rfl rfl)
theorem dX5_bendsOf_1 : decode cX5_bendsOf 1 = .ok (.istore_n 2, 1) := dk_61 (dk_at dksX5_bendsOf_0 1 rfl rfl)
theorem dX5_bendsOf_2 : decode cX5_bendsOf 2 = .ok (.aload_n 0, 1) := dk_42 (dk_at dksX5_bendsOf_0 2 rfl rfl)
theorem dX5_bendsOf_3 : decode cX5_bendsOf 3 = .ok (.getfield 3, 3) := dk_180 0 3 (dk_at dksX5_bendsOf_0 3 rfl rfl)
theorem dX5_bendsOf_6 : decode cX5_bendsOf 6 = .ok (.iload_n 1, 1) := dk_27 (dk_at dksX5_bendsOf_0 6 rfl rfl)
theorem dX5_bendsOf_7 : decode cX5_bendsOf 7 = .ok (.invokevirtual 64, 3) := dk_182 0 64 (dk_at dksX5_bendsOf_0 7 rfl rfl)
theorem dX5_bendsOf_10 : decode cX5_bendsOf 10 = .ok (.getfield 141, 3) := dk_180 0 141 (dk_at dksX5_bendsOf_0 10 rfl rfl)
theorem dX5_bendsOf_13 : decode cX5_bendsOf 13 = .ok (.istore_n 3, 1) := dk_62 (dk_at dksX5_bendsOf_0 13 rfl rfl)
theorem dX5_bendsOf_14 : decode cX5_bendsOf 14 = .ok (.iload_n 3, 1) := dk_29 (dk_at dksX5_bendsOf_0 14 rfl rfl)
theorem dX5_bendsOf_15 : decode cX5_bendsOf 15 = .ok (.aload_n 0, 1) := dk_42 (dk_at dksX5_bendsOf_0 15 rfl rfl)
theorem dX5_bendsOf_16 : decode cX5_bendsOf 16 = .ok (.getfield 3, 3) := dk_180 0 3 (dk_at dksX5_bendsOf_0 16 rfl rfl)
theorem dX5_bendsOf_19 : decode cX5_bendsOf 19 = .ok (.iload_n 1, 1) := dk_27 (dk_at dksX5_bendsOf_0 19 rfl rfl)
theorem dX5_bendsOf_20 : decode cX5_bendsOf 20 = .ok (.invokevirtual 64, 3) := dk_182 0 64 (dk_at dksX5_bendsOf_0 20 rfl rfl)
theorem dX5_bendsOf_23 : decode cX5_bendsOf 23 = .ok (.getfield 144, 3) := dk_180 0 144 (dk_at dksX5_bendsOf_1 0 rfl rfl)
theorem dX5_bendsOf_26 : decode cX5_bendsOf 26 = .ok (.if_icmp .gt 25, 3) := dk_163 0 25 (dk_at dksX5_bendsOf_1 3 rfl rfl)
theorem dX5_bendsOf_29 : decode cX5_bendsOf 29 = .ok (.iload_n 2, 1) := dk_28 (dk_at dksX5_bendsOf_1 6 rfl rfl)
theorem dX5_bendsOf_30 : decode cX5_bendsOf 30 = .ok (.aload_n 0, 1) := dk_42 (dk_at dksX5_bendsOf_1 7 rfl rfl)
theorem dX5_bendsOf_31 : decode cX5_bendsOf 31 = .ok (.iload_n 3, 1) := dk_29 (dk_at dksX5_bendsOf_1 8 rfl rfl)
theorem dX5_bendsOf_32 : decode cX5_bendsOf 32 = .ok (.invokevirtual 138, 3) := dk_182 0 138 (dk_at dksX5_bendsOf_1 9 rfl rfl)
theorem dX5_bendsOf_35 : decode cX5_bendsOf 35 = .ok (.ifCond .eq 7, 3) := dk_153 0 7 (dk_at dksX5_bendsOf_1 12 rfl rfl)
theorem dX5_bendsOf_38 : decode cX5_bendsOf 38 = .ok (.iconst 1, 1) := dk_4 (dk_at dksX5_bendsOf_1 15 rfl rfl)
theorem dX5_bendsOf_39 : decode cX5_bendsOf 39 = .ok (.goto 4, 3) := dk_167 0 4 (dk_at dksX5_bendsOf_1 16 rfl rfl)
theorem dX5_bendsOf_42 : decode cX5_bendsOf 42 = .ok (.iconst 0, 1) := dk_3 (dk_at dksX5_bendsOf_1 19 rfl rfl)
theorem dX5_bendsOf_43 : decode cX5_bendsOf 43 = .ok (.iadd, 1) := dk_96 (dk_at dksX5_bendsOf_1 20 rfl rfl)
theorem dX5_bendsOf_44 : decode cX5_bendsOf 44 = .ok (.istore_n 2, 1) := dk_61 (dk_at dksX5_bendsOf_1 21 rfl rfl)
theorem dX5_bendsOf_45 : decode cX5_bendsOf 45 = .ok (.iinc 3 1, 3) := dk_132 3 1 (dk_at dksX5_bendsOf_2 0 rfl rfl)
theorem dX5_bendsOf_48 : decode cX5_bendsOf 48 = .ok (.goto (-34), 3) := dk_167 255 222 (dk_at dksX5_bendsOf_2 3 rfl rfl)
theorem dX5_bendsOf_51 : decode cX5_bendsOf 51 = .ok (.iload_n 2, 1) := dk_28 (dk_at dksX5_bendsOf_2 6 rfl rfl)
theorem dX5_bendsOf_52 : decode cX5_bendsOf 52 = .ok (.ireturn, 1) := dk_172 (dk_at dksX5_bendsOf_2 7 rfl rfl)
abbrev cX5_copy : ByteArray := prog_15_method_3_code
def yX5_copy : MethodName := ⟨RX5, "copy", "(LBentRiver$State;)LBentRiver$State;"⟩
def dkwX5_copy_7 : List UInt8 := [43, 180, 0, 34, 28, 50, 29, 46, 79, 132, 3, 1, 167, 255, 232, 132, 2, 1, 167, 255, 216, 42, 176]
abbrev dktX5_copy_7 : List UInt8 := dkwX5_copy_7 ++ []
def dkwX5_copy_6 : List UInt8 := [3, 61, 28, 42, 180, 0, 47, 162, 0, 38, 3, 62, 29, 6, 162, 0, 25, 42, 180, 0, 34, 28, 50, 29]
abbrev dktX5_copy_6 : List UInt8 := dkwX5_copy_6 ++ dktX5_copy_7
def dkwX5_copy_5 : List UInt8 := [180, 0, 22, 28, 43, 180, 0, 22, 28, 51, 84, 42, 180, 0, 37, 28, 3, 79, 132, 2, 1, 167, 255, 217]
abbrev dktX5_copy_5 : List UInt8 := dkwX5_copy_5 ++ dktX5_copy_6
def dkwX5_copy_4 : List UInt8 := [167, 255, 189, 3, 61, 28, 8, 162, 0, 40, 42, 180, 0, 19, 28, 43, 180, 0, 19, 28, 46, 79, 42]
abbrev dktX5_copy_4 : List UInt8 := dkwX5_copy_4 ++ dktX5_copy_5
def dkwX5_copy_3 : List UInt8 := [180, 0, 31, 28, 50, 29, 43, 180, 0, 31, 28, 50, 29, 46, 79, 132, 3, 1, 167, 255, 215, 132, 2, 1]
abbrev dktX5_copy_3 : List UInt8 := dkwX5_copy_3 ++ dktX5_copy_4
def dkwX5_copy_2 : List UInt8 := [16, 8, 162, 0, 41, 42, 180, 0, 28, 28, 50, 29, 43, 180, 0, 28, 28, 50, 29, 46, 79, 42]
abbrev dktX5_copy_2 : List UInt8 := dkwX5_copy_2 ++ dktX5_copy_3
def dkwX5_copy_1 : List UInt8 := [3, 61, 28, 16, 10, 162, 0, 67, 42, 180, 0, 15, 28, 43, 180, 0, 15, 28, 46, 79, 3, 62, 29]
abbrev dktX5_copy_1 : List UInt8 := dkwX5_copy_1 ++ dktX5_copy_2
def dkwX5_copy_0 : List UInt8 := [42, 43, 180, 0, 40, 181, 0, 40, 42, 43, 180, 0, 44, 181, 0, 44, 42, 43, 180, 0, 47, 181, 0, 47]
abbrev dktX5_copy_0 : List UInt8 := dkwX5_copy_0 ++ dktX5_copy_1
theorem dksX5_copy_0 : cX5_copy.data.toList.drop 0 = dktX5_copy_0 := by decide +kernel
theorem dksX5_copy_1 : cX5_copy.data.toList.drop 24 = dktX5_copy_1 := dk_seg dksX5_copy_0 24 rfl rfl
theorem dksX5_copy_2 : cX5_copy.data.toList.drop 47 = dktX5_copy_2 := dk_seg dksX5_copy_1 23 rfl rfl
theorem dksX5_copy_3 : cX5_copy.data.toList.drop 69 = dktX5_copy_3 := dk_seg dksX5_copy_2 22 rfl rfl
theorem dksX5_copy_4 : cX5_copy.data.toList.drop 93 = dktX5_copy_4 := dk_seg dksX5_copy_3 24 rfl rfl
theorem dksX5_copy_5 : cX5_copy.data.toList.drop 116 = dktX5_copy_5 := dk_seg dksX5_copy_4 23 rfl rfl
theorem dksX5_copy_6 : cX5_copy.data.toList.drop 140 = dktX5_copy_6 := dk_seg dksX5_copy_5 24 rfl rfl
theorem dksX5_copy_7 : cX5_copy.data.toList.drop 164 = dktX5_copy_7 := dk_seg dksX5_copy_6 24 rfl rfl
theorem dX5_copy_0 : decode cX5_copy 0 = .ok (.aload_n 0, 1) := dk_42 (dk_at dksX5_copy_0 0 rfl rfl)
theorem dX5_copy_1 : decode cX5_copy 1 = .ok (.aload_n 1, 1) := dk_43 (dk_at dksX5_copy_0 1 rfl rfl)
theorem dX5_copy_2 : decode cX5_copy 2 = .ok (.getfield 40, 3) := dk_180 0 40 (dk_at dksX5_copy_0 2 rfl rfl)
theorem dX5_copy_5 : decode cX5_copy 5 = .ok (.putfield 40, 3) := dk_181 0 40 (dk_at dksX5_copy_0 5 rfl rfl)
theorem dX5_copy_8 : decode cX5_copy 8 = .ok (.aload_n 0, 1) := dk_42 (dk_at dksX5_copy_0 8 rfl rfl)
theorem dX5_copy_9 : decode cX5_copy 9 = .ok (.aload_n 1, 1) := dk_43 (dk_at dksX5_copy_0 9 rfl rfl)
theorem dX5_copy_10 : decode cX5_copy 10 = .ok (.getfield 44, 3) := dk_180 0 44 (dk_at dksX5_copy_0 10 rfl rfl)
theorem dX5_copy_13 : decode cX5_copy 13 = .ok (.putfield 44, 3) := dk_181 0 44 (dk_at dksX5_copy_0 13 rfl rfl)
theorem dX5_copy_16 : decode cX5_copy 16 = .ok (.aload_n 0, 1) := dk_42 (dk_at dksX5_copy_0 16 rfl rfl)
theorem dX5_copy_17 : decode cX5_copy 17 = .ok (.aload_n 1, 1) := dk_43 (dk_at dksX5_copy_0 17 rfl rfl)
theorem dX5_copy_18 : decode cX5_copy 18 = .ok (.getfield 47, 3) := dk_180 0 47 (dk_at dksX5_copy_0 18 rfl rfl)
theorem dX5_copy_21 : decode cX5_copy 21 = .ok (.putfield 47, 3) := dk_181 0 47 (dk_at dksX5_copy_0 21 rfl rfl)
theorem dX5_copy_24 : decode cX5_copy 24 = .ok (.iconst 0, 1) := dk_3 (dk_at dksX5_copy_1 0 rfl rfl)
theorem dX5_copy_25 : decode cX5_copy 25 = .ok (.istore_n 2, 1) := dk_61 (dk_at dksX5_copy_1 1 rfl rfl)
theorem dX5_copy_26 : decode cX5_copy 26 = .ok (.iload_n 2, 1) := dk_28 (dk_at dksX5_copy_1 2 rfl rfl)
theorem dX5_copy_27 : decode cX5_copy 27 = .ok (.bipush 10, 2) := dk_16 10 (dk_at dksX5_copy_1 3 rfl rfl)
theorem dX5_copy_29 : decode cX5_copy 29 = .ok (.if_icmp .ge 67, 3) := dk_162 0 67 (dk_at dksX5_copy_1 5 rfl rfl)
theorem dX5_copy_32 : decode cX5_copy 32 = .ok (.aload_n 0, 1) := dk_42 (dk_at dksX5_copy_1 8 rfl rfl)
theorem dX5_copy_33 : decode cX5_copy 33 = .ok (.getfield 15, 3) := dk_180 0 15 (dk_at dksX5_copy_1 9 rfl rfl)
theorem dX5_copy_36 : decode cX5_copy 36 = .ok (.iload_n 2, 1) := dk_28 (dk_at dksX5_copy_1 12 rfl rfl)
theorem dX5_copy_37 : decode cX5_copy 37 = .ok (.aload_n 1, 1) := dk_43 (dk_at dksX5_copy_1 13 rfl rfl)
theorem dX5_copy_38 : decode cX5_copy 38 = .ok (.getfield 15, 3) := dk_180 0 15 (dk_at dksX5_copy_1 14 rfl rfl)
theorem dX5_copy_41 : decode cX5_copy 41 = .ok (.iload_n 2, 1) := dk_28 (dk_at dksX5_copy_1 17 rfl rfl)
theorem dX5_copy_42 : decode cX5_copy 42 = .ok (.iaload, 1) := dk_46 (dk_at dksX5_copy_1 18 rfl rfl)
theorem dX5_copy_43 : decode cX5_copy 43 = .ok (.iastore, 1) := dk_79 (dk_at dksX5_copy_1 19 rfl rfl)
theorem dX5_copy_44 : decode cX5_copy 44 = .ok (.iconst 0, 1) := dk_3 (dk_at dksX5_copy_1 20 rfl rfl)
theorem dX5_copy_45 : decode cX5_copy 45 = .ok (.istore_n 3, 1) := dk_62 (dk_at dksX5_copy_1 21 rfl rfl)
theorem dX5_copy_46 : decode cX5_copy 46 = .ok (.iload_n 3, 1) := dk_29 (dk_at dksX5_copy_1 22 rfl rfl)
theorem dX5_copy_47 : decode cX5_copy 47 = .ok (.bipush 8, 2) := dk_16 8 (dk_at dksX5_copy_2 0 rfl rfl)
theorem dX5_copy_49 : decode cX5_copy 49 = .ok (.if_icmp .ge 41, 3) := dk_162 0 41 (dk_at dksX5_copy_2 2 rfl rfl)
theorem dX5_copy_52 : decode cX5_copy 52 = .ok (.aload_n 0, 1) := dk_42 (dk_at dksX5_copy_2 5 rfl rfl)
theorem dX5_copy_53 : decode cX5_copy 53 = .ok (.getfield 28, 3) := dk_180 0 28 (dk_at dksX5_copy_2 6 rfl rfl)
theorem dX5_copy_56 : decode cX5_copy 56 = .ok (.iload_n 2, 1) := dk_28 (dk_at dksX5_copy_2 9 rfl rfl)
theorem dX5_copy_57 : decode cX5_copy 57 = .ok (.aaload, 1) := dk_50 (dk_at dksX5_copy_2 10 rfl rfl)
theorem dX5_copy_58 : decode cX5_copy 58 = .ok (.iload_n 3, 1) := dk_29 (dk_at dksX5_copy_2 11 rfl rfl)
theorem dX5_copy_59 : decode cX5_copy 59 = .ok (.aload_n 1, 1) := dk_43 (dk_at dksX5_copy_2 12 rfl rfl)
theorem dX5_copy_60 : decode cX5_copy 60 = .ok (.getfield 28, 3) := dk_180 0 28 (dk_at dksX5_copy_2 13 rfl rfl)
theorem dX5_copy_63 : decode cX5_copy 63 = .ok (.iload_n 2, 1) := dk_28 (dk_at dksX5_copy_2 16 rfl rfl)
theorem dX5_copy_64 : decode cX5_copy 64 = .ok (.aaload, 1) := dk_50 (dk_at dksX5_copy_2 17 rfl rfl)
theorem dX5_copy_65 : decode cX5_copy 65 = .ok (.iload_n 3, 1) := dk_29 (dk_at dksX5_copy_2 18 rfl rfl)
theorem dX5_copy_66 : decode cX5_copy 66 = .ok (.iaload, 1) := dk_46 (dk_at dksX5_copy_2 19 rfl rfl)
theorem dX5_copy_67 : decode cX5_copy 67 = .ok (.iastore, 1) := dk_79 (dk_at dksX5_copy_2 20 rfl rfl)
theorem dX5_copy_68 : decode cX5_copy 68 = .ok (.aload_n 0, 1) := dk_42 (dk_at dksX5_copy_2 21 rfl rfl)
theorem dX5_copy_69 : decode cX5_copy 69 = .ok (.getfield 31, 3) := dk_180 0 31 (dk_at dksX5_copy_3 0 rfl rfl)
theorem dX5_copy_72 : decode cX5_copy 72 = .ok (.iload_n 2, 1) := dk_28 (dk_at dksX5_copy_3 3 rfl rfl)
theorem dX5_copy_73 : decode cX5_copy 73 = .ok (.aaload, 1) := dk_50 (dk_at dksX5_copy_3 4 rfl rfl)
theorem dX5_copy_74 : decode cX5_copy 74 = .ok (.iload_n 3, 1) := dk_29 (dk_at dksX5_copy_3 5 rfl rfl)
theorem dX5_copy_75 : decode cX5_copy 75 = .ok (.aload_n 1, 1) := dk_43 (dk_at dksX5_copy_3 6 rfl rfl)
theorem dX5_copy_76 : decode cX5_copy 76 = .ok (.getfield 31, 3) := dk_180 0 31 (dk_at dksX5_copy_3 7 rfl rfl)
theorem dX5_copy_79 : decode cX5_copy 79 = .ok (.iload_n 2, 1) := dk_28 (dk_at dksX5_copy_3 10 rfl rfl)
theorem dX5_copy_80 : decode cX5_copy 80 = .ok (.aaload, 1) := dk_50 (dk_at dksX5_copy_3 11 rfl rfl)
theorem dX5_copy_81 : decode cX5_copy 81 = .ok (.iload_n 3, 1) := dk_29 (dk_at dksX5_copy_3 12 rfl rfl)
theorem dX5_copy_82 : decode cX5_copy 82 = .ok (.iaload, 1) := dk_46 (dk_at dksX5_copy_3 13 rfl rfl)
theorem dX5_copy_83 : decode cX5_copy 83 = .ok (.iastore, 1) := dk_79 (dk_at dksX5_copy_3 14 rfl rfl)
theorem dX5_copy_84 : decode cX5_copy 84 = .ok (.iinc 3 1, 3) := dk_132 3 1 (dk_at dksX5_copy_3 15 rfl rfl)
theorem dX5_copy_87 : decode cX5_copy 87 = .ok (.goto (-41), 3) := dk_167 255 215 (dk_at dksX5_copy_3 18 rfl rfl)
theorem dX5_copy_90 : decode cX5_copy 90 = .ok (.iinc 2 1, 3) := dk_132 2 1 (dk_at dksX5_copy_3 21 rfl rfl)
theorem dX5_copy_93 : decode cX5_copy 93 = .ok (.goto (-67), 3) := dk_167 255 189 (dk_at dksX5_copy_4 0 rfl rfl)
theorem dX5_copy_96 : decode cX5_copy 96 = .ok (.iconst 0, 1) := dk_3 (dk_at dksX5_copy_4 3 rfl rfl)
theorem dX5_copy_97 : decode cX5_copy 97 = .ok (.istore_n 2, 1) := dk_61 (dk_at dksX5_copy_4 4 rfl rfl)
theorem dX5_copy_98 : decode cX5_copy 98 = .ok (.iload_n 2, 1) := dk_28 (dk_at dksX5_copy_4 5 rfl rfl)
theorem dX5_copy_99 : decode cX5_copy 99 = .ok (.iconst 5, 1) := dk_8 (dk_at dksX5_copy_4 6 rfl rfl)
theorem dX5_copy_100 : decode cX5_copy 100 = .ok (.if_icmp .ge 40, 3) := dk_162 0 40 (dk_at dksX5_copy_4 7 rfl rfl)
theorem dX5_copy_103 : decode cX5_copy 103 = .ok (.aload_n 0, 1) := dk_42 (dk_at dksX5_copy_4 10 rfl rfl)
theorem dX5_copy_104 : decode cX5_copy 104 = .ok (.getfield 19, 3) := dk_180 0 19 (dk_at dksX5_copy_4 11 rfl rfl)
theorem dX5_copy_107 : decode cX5_copy 107 = .ok (.iload_n 2, 1) := dk_28 (dk_at dksX5_copy_4 14 rfl rfl)
theorem dX5_copy_108 : decode cX5_copy 108 = .ok (.aload_n 1, 1) := dk_43 (dk_at dksX5_copy_4 15 rfl rfl)
theorem dX5_copy_109 : decode cX5_copy 109 = .ok (.getfield 19, 3) := dk_180 0 19 (dk_at dksX5_copy_4 16 rfl rfl)
theorem dX5_copy_112 : decode cX5_copy 112 = .ok (.iload_n 2, 1) := dk_28 (dk_at dksX5_copy_4 19 rfl rfl)
theorem dX5_copy_113 : decode cX5_copy 113 = .ok (.iaload, 1) := dk_46 (dk_at dksX5_copy_4 20 rfl rfl)
theorem dX5_copy_114 : decode cX5_copy 114 = .ok (.iastore, 1) := dk_79 (dk_at dksX5_copy_4 21 rfl rfl)
theorem dX5_copy_115 : decode cX5_copy 115 = .ok (.aload_n 0, 1) := dk_42 (dk_at dksX5_copy_4 22 rfl rfl)
theorem dX5_copy_116 : decode cX5_copy 116 = .ok (.getfield 22, 3) := dk_180 0 22 (dk_at dksX5_copy_5 0 rfl rfl)
theorem dX5_copy_119 : decode cX5_copy 119 = .ok (.iload_n 2, 1) := dk_28 (dk_at dksX5_copy_5 3 rfl rfl)
theorem dX5_copy_120 : decode cX5_copy 120 = .ok (.aload_n 1, 1) := dk_43 (dk_at dksX5_copy_5 4 rfl rfl)
theorem dX5_copy_121 : decode cX5_copy 121 = .ok (.getfield 22, 3) := dk_180 0 22 (dk_at dksX5_copy_5 5 rfl rfl)
theorem dX5_copy_124 : decode cX5_copy 124 = .ok (.iload_n 2, 1) := dk_28 (dk_at dksX5_copy_5 8 rfl rfl)
theorem dX5_copy_125 : decode cX5_copy 125 = .ok (.baload, 1) := dk_51 (dk_at dksX5_copy_5 9 rfl rfl)
theorem dX5_copy_126 : decode cX5_copy 126 = .ok (.bastore, 1) := dk_84 (dk_at dksX5_copy_5 10 rfl rfl)
theorem dX5_copy_127 : decode cX5_copy 127 = .ok (.aload_n 0, 1) := dk_42 (dk_at dksX5_copy_5 11 rfl rfl)
theorem dX5_copy_128 : decode cX5_copy 128 = .ok (.getfield 37, 3) := dk_180 0 37 (dk_at dksX5_copy_5 12 rfl rfl)
theorem dX5_copy_131 : decode cX5_copy 131 = .ok (.iload_n 2, 1) := dk_28 (dk_at dksX5_copy_5 15 rfl rfl)
theorem dX5_copy_132 : decode cX5_copy 132 = .ok (.iconst 0, 1) := dk_3 (dk_at dksX5_copy_5 16 rfl rfl)
theorem dX5_copy_133 : decode cX5_copy 133 = .ok (.iastore, 1) := dk_79 (dk_at dksX5_copy_5 17 rfl rfl)
theorem dX5_copy_134 : decode cX5_copy 134 = .ok (.iinc 2 1, 3) := dk_132 2 1 (dk_at dksX5_copy_5 18 rfl rfl)
theorem dX5_copy_137 : decode cX5_copy 137 = .ok (.goto (-39), 3) := dk_167 255 217 (dk_at dksX5_copy_5 21 rfl rfl)
theorem dX5_copy_140 : decode cX5_copy 140 = .ok (.iconst 0, 1) := dk_3 (dk_at dksX5_copy_6 0 rfl rfl)
theorem dX5_copy_141 : decode cX5_copy 141 = .ok (.istore_n 2, 1) := dk_61 (dk_at dksX5_copy_6 1 rfl rfl)
theorem dX5_copy_142 : decode cX5_copy 142 = .ok (.iload_n 2, 1) := dk_28 (dk_at dksX5_copy_6 2 rfl rfl)
theorem dX5_copy_143 : decode cX5_copy 143 = .ok (.aload_n 0, 1) := dk_42 (dk_at dksX5_copy_6 3 rfl rfl)
theorem dX5_copy_144 : decode cX5_copy 144 = .ok (.getfield 47, 3) := dk_180 0 47 (dk_at dksX5_copy_6 4 rfl rfl)
theorem dX5_copy_147 : decode cX5_copy 147 = .ok (.if_icmp .ge 38, 3) := dk_162 0 38 (dk_at dksX5_copy_6 7 rfl rfl)
theorem dX5_copy_150 : decode cX5_copy 150 = .ok (.iconst 0, 1) := dk_3 (dk_at dksX5_copy_6 10 rfl rfl)
theorem dX5_copy_151 : decode cX5_copy 151 = .ok (.istore_n 3, 1) := dk_62 (dk_at dksX5_copy_6 11 rfl rfl)
theorem dX5_copy_152 : decode cX5_copy 152 = .ok (.iload_n 3, 1) := dk_29 (dk_at dksX5_copy_6 12 rfl rfl)
theorem dX5_copy_153 : decode cX5_copy 153 = .ok (.iconst 3, 1) := dk_6 (dk_at dksX5_copy_6 13 rfl rfl)
theorem dX5_copy_154 : decode cX5_copy 154 = .ok (.if_icmp .ge 25, 3) := dk_162 0 25 (dk_at dksX5_copy_6 14 rfl rfl)
theorem dX5_copy_157 : decode cX5_copy 157 = .ok (.aload_n 0, 1) := dk_42 (dk_at dksX5_copy_6 17 rfl rfl)
theorem dX5_copy_158 : decode cX5_copy 158 = .ok (.getfield 34, 3) := dk_180 0 34 (dk_at dksX5_copy_6 18 rfl rfl)
theorem dX5_copy_161 : decode cX5_copy 161 = .ok (.iload_n 2, 1) := dk_28 (dk_at dksX5_copy_6 21 rfl rfl)
theorem dX5_copy_162 : decode cX5_copy 162 = .ok (.aaload, 1) := dk_50 (dk_at dksX5_copy_6 22 rfl rfl)
theorem dX5_copy_163 : decode cX5_copy 163 = .ok (.iload_n 3, 1) := dk_29 (dk_at dksX5_copy_6 23 rfl rfl)
theorem dX5_copy_164 : decode cX5_copy 164 = .ok (.aload_n 1, 1) := dk_43 (dk_at dksX5_copy_7 0 rfl rfl)
theorem dX5_copy_165 : decode cX5_copy 165 = .ok (.getfield 34, 3) := dk_180 0 34 (dk_at dksX5_copy_7 1 rfl rfl)
theorem dX5_copy_168 : decode cX5_copy 168 = .ok (.iload_n 2, 1) := dk_28 (dk_at dksX5_copy_7 4 rfl rfl)
theorem dX5_copy_169 : decode cX5_copy 169 = .ok (.aaload, 1) := dk_50 (dk_at dksX5_copy_7 5 rfl rfl)
theorem dX5_copy_170 : decode cX5_copy 170 = .ok (.iload_n 3, 1) := dk_29 (dk_at dksX5_copy_7 6 rfl rfl)
theorem dX5_copy_171 : decode cX5_copy 171 = .ok (.iaload, 1) := dk_46 (dk_at dksX5_copy_7 7 rfl rfl)
theorem dX5_copy_172 : decode cX5_copy 172 = .ok (.iastore, 1) := dk_79 (dk_at dksX5_copy_7 8 rfl rfl)
theorem dX5_copy_173 : decode cX5_copy 173 = .ok (.iinc 3 1, 3) := dk_132 3 1 (dk_at dksX5_copy_7 9 rfl rfl)
theorem dX5_copy_176 : decode cX5_copy 176 = .ok (.goto (-24), 3) := dk_167 255 232 (dk_at dksX5_copy_7 12 rfl rfl)
theorem dX5_copy_179 : decode cX5_copy 179 = .ok (.iinc 2 1, 3) := dk_132 2 1 (dk_at dksX5_copy_7 15 rfl rfl)
theorem dX5_copy_182 : decode cX5_copy 182 = .ok (.goto (-40), 3) := dk_167 255 216 (dk_at dksX5_copy_7 18 rfl rfl)
theorem dX5_copy_185 : decode cX5_copy 185 = .ok (.aload_n 0, 1) := dk_42 (dk_at dksX5_copy_7 21 rfl rfl)
theorem dX5_copy_186 : decode cX5_copy 186 = .ok (.areturn, 1) := dk_176 (dk_at dksX5_copy_7 22 rfl rfl)
abbrev cX5_seasons : ByteArray := prog_15_method_18_code
def yX5_seasons : MethodName := ⟨RX5, "seasons", "(I)LBentRiver$State;"⟩
def dkwX5_seasons_0 : List UInt8 := [3, 61, 28, 27, 162, 0, 14, 42, 182, 0, 183, 87, 132, 2, 1, 167, 255, 243, 42, 176]
abbrev dktX5_seasons_0 : List UInt8 := dkwX5_seasons_0 ++ []
theorem dksX5_seasons_0 : cX5_seasons.data.toList.drop 0 = dktX5_seasons_0 := by decide +kernel
theorem dX5_seasons_0 : decode cX5_seasons 0 = .ok (.iconst 0, 1) := dk_3 (dk_at dksX5_seasons_0 0 rfl rfl)
theorem dX5_seasons_1 : decode cX5_seasons 1 = .ok (.istore_n 2, 1) := dk_61 (dk_at dksX5_seasons_0 1 rfl rfl)
theorem dX5_seasons_2 : decode cX5_seasons 2 = .ok (.iload_n 2, 1) := dk_28 (dk_at dksX5_seasons_0 2 rfl rfl)
theorem dX5_seasons_3 : decode cX5_seasons 3 = .ok (.iload_n 1, 1) := dk_27 (dk_at dksX5_seasons_0 3 rfl rfl)
theorem dX5_seasons_4 : decode cX5_seasons 4 = .ok (.if_icmp .ge 14, 3) := dk_162 0 14 (dk_at dksX5_seasons_0 4 rfl rfl)
theorem dX5_seasons_7 : decode cX5_seasons 7 = .ok (.aload_n 0, 1) := dk_42 (dk_at dksX5_seasons_0 7 rfl rfl)
theorem dX5_seasons_8 : decode cX5_seasons 8 = .ok (.invokevirtual 183, 3) := dk_182 0 183 (dk_at dksX5_seasons_0 8 rfl rfl)
theorem dX5_seasons_11 : decode cX5_seasons 11 = .ok (.pop, 1) := dk_87 (dk_at dksX5_seasons_0 11 rfl rfl)
theorem dX5_seasons_12 : decode cX5_seasons 12 = .ok (.iinc 2 1, 3) := dk_132 2 1 (dk_at dksX5_seasons_0 12 rfl rfl)
theorem dX5_seasons_15 : decode cX5_seasons 15 = .ok (.goto (-13), 3) := dk_167 255 243 (dk_at dksX5_seasons_0 15 rfl rfl)
theorem dX5_seasons_18 : decode cX5_seasons 18 = .ok (.aload_n 0, 1) := dk_42 (dk_at dksX5_seasons_0 18 rfl rfl)
theorem dX5_seasons_19 : decode cX5_seasons 19 = .ok (.areturn, 1) := dk_176 (dk_at dksX5_seasons_0 19 rfl rfl)
abbrev cX5_passes : ByteArray := prog_15_method_17_code
def yX5_passes : MethodName := ⟨RX5, "passes", "()I"⟩
def dkwX5_passes_6 : List UInt8 := [89, 180, 0, 40, 4, 96, 181, 0, 40, 27, 172]
abbrev dktX5_passes_6 : List UInt8 := dkwX5_passes_6 ++ []
def dkwX5_passes_5 : List UInt8 := [18, 175, 42, 180, 0, 44, 27, 96, 184, 0, 81, 181, 0, 44, 42, 42, 182, 0, 176, 27, 182, 0, 179, 42]
abbrev dktX5_passes_5 : List UInt8 := dkwX5_passes_5 ++ dktX5_passes_6
def dkwX5_passes_4 : List UInt8 := [182, 0, 138, 153, 0, 11, 42, 28, 182, 0, 173, 167, 0, 4, 3, 96, 60, 132, 2, 1, 167, 255, 222, 42]
abbrev dktX5_passes_4 : List UInt8 := dkwX5_passes_4 ++ dktX5_passes_5
def dkwX5_passes_3 : List UInt8 := [132, 1, 1, 167, 255, 209, 3, 60, 3, 61, 28, 42, 180, 0, 3, 182, 0, 78, 162, 0, 29, 27, 42, 28]
abbrev dktX5_passes_3 : List UInt8 := dkwX5_passes_3 ++ dktX5_passes_4
def dkwX5_passes_2 : List UInt8 := [46, 16, 99, 42, 180, 0, 31, 27, 50, 42, 180, 0, 15, 27, 46, 46, 4, 96, 184, 0, 81, 79]
abbrev dktX5_passes_2 : List UInt8 := dkwX5_passes_2 ++ dktX5_passes_3
def dkwX5_passes_1 : List UInt8 := [3, 60, 27, 42, 180, 0, 3, 182, 0, 78, 162, 0, 42, 42, 180, 0, 31, 27, 50, 42, 180, 0, 15, 27]
abbrev dktX5_passes_1 : List UInt8 := dkwX5_passes_1 ++ dktX5_passes_2
def dkwX5_passes_0 : List UInt8 := [3, 60, 27, 42, 180, 0, 3, 182, 0, 78, 162, 0, 14, 42, 27, 182, 0, 169, 132, 1, 1, 167, 255, 237]
abbrev dktX5_passes_0 : List UInt8 := dkwX5_passes_0 ++ dktX5_passes_1
theorem dksX5_passes_0 : cX5_passes.data.toList.drop 0 = dktX5_passes_0 := by decide +kernel
theorem dksX5_passes_1 : cX5_passes.data.toList.drop 24 = dktX5_passes_1 := dk_seg dksX5_passes_0 24 rfl rfl
theorem dksX5_passes_2 : cX5_passes.data.toList.drop 48 = dktX5_passes_2 := dk_seg dksX5_passes_1 24 rfl rfl
theorem dksX5_passes_3 : cX5_passes.data.toList.drop 70 = dktX5_passes_3 := dk_seg dksX5_passes_2 22 rfl rfl
theorem dksX5_passes_4 : cX5_passes.data.toList.drop 94 = dktX5_passes_4 := dk_seg dksX5_passes_3 24 rfl rfl
theorem dksX5_passes_5 : cX5_passes.data.toList.drop 118 = dktX5_passes_5 := dk_seg dksX5_passes_4 24 rfl rfl
theorem dksX5_passes_6 : cX5_passes.data.toList.drop 142 = dktX5_passes_6 := dk_seg dksX5_passes_5 24 rfl rfl
theorem dX5_passes_0 : decode cX5_passes 0 = .ok (.iconst 0, 1) := dk_3 (dk_at dksX5_passes_0 0 rfl rfl)
theorem dX5_passes_1 : decode cX5_passes 1 = .ok (.istore_n 1, 1) := dk_60 (dk_at dksX5_passes_0 1 rfl rfl)
theorem dX5_passes_2 : decode cX5_passes 2 = .ok (.iload_n 1, 1) := dk_27 (dk_at dksX5_passes_0 2 rfl rfl)
theorem dX5_passes_3 : decode cX5_passes 3 = .ok (.aload_n 0, 1) := dk_42 (dk_at dksX5_passes_0 3 rfl rfl)
theorem dX5_passes_4 : decode cX5_passes 4 = .ok (.getfield 3, 3) := dk_180 0 3 (dk_at dksX5_passes_0 4 rfl rfl)
theorem dX5_passes_7 : decode cX5_passes 7 = .ok (.invokevirtual 78, 3) := dk_182 0 78 (dk_at dksX5_passes_0 7 rfl rfl)
theorem dX5_passes_10 : decode cX5_passes 10 = .ok (.if_icmp .ge 14, 3) := dk_162 0 14 (dk_at dksX5_passes_0 10 rfl rfl)
theorem dX5_passes_13 : decode cX5_passes 13 = .ok (.aload_n 0, 1) := dk_42 (dk_at dksX5_passes_0 13 rfl rfl)
theorem dX5_passes_14 : decode cX5_passes 14 = .ok (.iload_n 1, 1) := dk_27 (dk_at dksX5_passes_0 14 rfl rfl)
theorem dX5_passes_15 : decode cX5_passes 15 = .ok (.invokevirtual 169, 3) := dk_182 0 169 (dk_at dksX5_passes_0 15 rfl rfl)
theorem dX5_passes_18 : decode cX5_passes 18 = .ok (.iinc 1 1, 3) := dk_132 1 1 (dk_at dksX5_passes_0 18 rfl rfl)
theorem dX5_passes_21 : decode cX5_passes 21 = .ok (.goto (-19), 3) := dk_167 255 237 (dk_at dksX5_passes_0 21 rfl rfl)
theorem dX5_passes_24 : decode cX5_passes 24 = .ok (.iconst 0, 1) := dk_3 (dk_at dksX5_passes_1 0 rfl rfl)
theorem dX5_passes_25 : decode cX5_passes 25 = .ok (.istore_n 1, 1) := dk_60 (dk_at dksX5_passes_1 1 rfl rfl)
theorem dX5_passes_26 : decode cX5_passes 26 = .ok (.iload_n 1, 1) := dk_27 (dk_at dksX5_passes_1 2 rfl rfl)
theorem dX5_passes_27 : decode cX5_passes 27 = .ok (.aload_n 0, 1) := dk_42 (dk_at dksX5_passes_1 3 rfl rfl)
theorem dX5_passes_28 : decode cX5_passes 28 = .ok (.getfield 3, 3) := dk_180 0 3 (dk_at dksX5_passes_1 4 rfl rfl)
theorem dX5_passes_31 : decode cX5_passes 31 = .ok (.invokevirtual 78, 3) := dk_182 0 78 (dk_at dksX5_passes_1 7 rfl rfl)
theorem dX5_passes_34 : decode cX5_passes 34 = .ok (.if_icmp .ge 42, 3) := dk_162 0 42 (dk_at dksX5_passes_1 10 rfl rfl)
theorem dX5_passes_37 : decode cX5_passes 37 = .ok (.aload_n 0, 1) := dk_42 (dk_at dksX5_passes_1 13 rfl rfl)
theorem dX5_passes_38 : decode cX5_passes 38 = .ok (.getfield 31, 3) := dk_180 0 31 (dk_at dksX5_passes_1 14 rfl rfl)
theorem dX5_passes_41 : decode cX5_passes 41 = .ok (.iload_n 1, 1) := dk_27 (dk_at dksX5_passes_1 17 rfl rfl)
theorem dX5_passes_42 : decode cX5_passes 42 = .ok (.aaload, 1) := dk_50 (dk_at dksX5_passes_1 18 rfl rfl)
theorem dX5_passes_43 : decode cX5_passes 43 = .ok (.aload_n 0, 1) := dk_42 (dk_at dksX5_passes_1 19 rfl rfl)
theorem dX5_passes_44 : decode cX5_passes 44 = .ok (.getfield 15, 3) := dk_180 0 15 (dk_at dksX5_passes_1 20 rfl rfl)
theorem dX5_passes_47 : decode cX5_passes 47 = .ok (.iload_n 1, 1) := dk_27 (dk_at dksX5_passes_1 23 rfl rfl)
theorem dX5_passes_48 : decode cX5_passes 48 = .ok (.iaload, 1) := dk_46 (dk_at dksX5_passes_2 0 rfl rfl)
theorem dX5_passes_49 : decode cX5_passes 49 = .ok (.bipush 99, 2) := dk_16 99 (dk_at dksX5_passes_2 1 rfl rfl)
theorem dX5_passes_51 : decode cX5_passes 51 = .ok (.aload_n 0, 1) := dk_42 (dk_at dksX5_passes_2 3 rfl rfl)
theorem dX5_passes_52 : decode cX5_passes 52 = .ok (.getfield 31, 3) := dk_180 0 31 (dk_at dksX5_passes_2 4 rfl rfl)
theorem dX5_passes_55 : decode cX5_passes 55 = .ok (.iload_n 1, 1) := dk_27 (dk_at dksX5_passes_2 7 rfl rfl)
theorem dX5_passes_56 : decode cX5_passes 56 = .ok (.aaload, 1) := dk_50 (dk_at dksX5_passes_2 8 rfl rfl)
theorem dX5_passes_57 : decode cX5_passes 57 = .ok (.aload_n 0, 1) := dk_42 (dk_at dksX5_passes_2 9 rfl rfl)
theorem dX5_passes_58 : decode cX5_passes 58 = .ok (.getfield 15, 3) := dk_180 0 15 (dk_at dksX5_passes_2 10 rfl rfl)
theorem dX5_passes_61 : decode cX5_passes 61 = .ok (.iload_n 1, 1) := dk_27 (dk_at dksX5_passes_2 13 rfl rfl)
theorem dX5_passes_62 : decode cX5_passes 62 = .ok (.iaload, 1) := dk_46 (dk_at dksX5_passes_2 14 rfl rfl)
theorem dX5_passes_63 : decode cX5_passes 63 = .ok (.iaload, 1) := dk_46 (dk_at dksX5_passes_2 15 rfl rfl)
theorem dX5_passes_64 : decode cX5_passes 64 = .ok (.iconst 1, 1) := dk_4 (dk_at dksX5_passes_2 16 rfl rfl)
theorem dX5_passes_65 : decode cX5_passes 65 = .ok (.iadd, 1) := dk_96 (dk_at dksX5_passes_2 17 rfl rfl)
theorem dX5_passes_66 : decode cX5_passes 66 = .ok (.invokestatic 81, 3) := dk_184 0 81 (dk_at dksX5_passes_2 18 rfl rfl)
theorem dX5_passes_69 : decode cX5_passes 69 = .ok (.iastore, 1) := dk_79 (dk_at dksX5_passes_2 21 rfl rfl)
theorem dX5_passes_70 : decode cX5_passes 70 = .ok (.iinc 1 1, 3) := dk_132 1 1 (dk_at dksX5_passes_3 0 rfl rfl)
theorem dX5_passes_73 : decode cX5_passes 73 = .ok (.goto (-47), 3) := dk_167 255 209 (dk_at dksX5_passes_3 3 rfl rfl)
theorem dX5_passes_76 : decode cX5_passes 76 = .ok (.iconst 0, 1) := dk_3 (dk_at dksX5_passes_3 6 rfl rfl)
theorem dX5_passes_77 : decode cX5_passes 77 = .ok (.istore_n 1, 1) := dk_60 (dk_at dksX5_passes_3 7 rfl rfl)
theorem dX5_passes_78 : decode cX5_passes 78 = .ok (.iconst 0, 1) := dk_3 (dk_at dksX5_passes_3 8 rfl rfl)
theorem dX5_passes_79 : decode cX5_passes 79 = .ok (.istore_n 2, 1) := dk_61 (dk_at dksX5_passes_3 9 rfl rfl)
theorem dX5_passes_80 : decode cX5_passes 80 = .ok (.iload_n 2, 1) := dk_28 (dk_at dksX5_passes_3 10 rfl rfl)
theorem dX5_passes_81 : decode cX5_passes 81 = .ok (.aload_n 0, 1) := dk_42 (dk_at dksX5_passes_3 11 rfl rfl)
theorem dX5_passes_82 : decode cX5_passes 82 = .ok (.getfield 3, 3) := dk_180 0 3 (dk_at dksX5_passes_3 12 rfl rfl)
theorem dX5_passes_85 : decode cX5_passes 85 = .ok (.invokevirtual 78, 3) := dk_182 0 78 (dk_at dksX5_passes_3 15 rfl rfl)
theorem dX5_passes_88 : decode cX5_passes 88 = .ok (.if_icmp .ge 29, 3) := dk_162 0 29 (dk_at dksX5_passes_3 18 rfl rfl)
theorem dX5_passes_91 : decode cX5_passes 91 = .ok (.iload_n 1, 1) := dk_27 (dk_at dksX5_passes_3 21 rfl rfl)
theorem dX5_passes_92 : decode cX5_passes 92 = .ok (.aload_n 0, 1) := dk_42 (dk_at dksX5_passes_3 22 rfl rfl)
theorem dX5_passes_93 : decode cX5_passes 93 = .ok (.iload_n 2, 1) := dk_28 (dk_at dksX5_passes_3 23 rfl rfl)
theorem dX5_passes_94 : decode cX5_passes 94 = .ok (.invokevirtual 138, 3) := dk_182 0 138 (dk_at dksX5_passes_4 0 rfl rfl)
theorem dX5_passes_97 : decode cX5_passes 97 = .ok (.ifCond .eq 11, 3) := dk_153 0 11 (dk_at dksX5_passes_4 3 rfl rfl)
theorem dX5_passes_100 : decode cX5_passes 100 = .ok (.aload_n 0, 1) := dk_42 (dk_at dksX5_passes_4 6 rfl rfl)
theorem dX5_passes_101 : decode cX5_passes 101 = .ok (.iload_n 2, 1) := dk_28 (dk_at dksX5_passes_4 7 rfl rfl)
theorem dX5_passes_102 : decode cX5_passes 102 = .ok (.invokevirtual 173, 3) := dk_182 0 173 (dk_at dksX5_passes_4 8 rfl rfl)
theorem dX5_passes_105 : decode cX5_passes 105 = .ok (.goto 4, 3) := dk_167 0 4 (dk_at dksX5_passes_4 11 rfl rfl)
theorem dX5_passes_108 : decode cX5_passes 108 = .ok (.iconst 0, 1) := dk_3 (dk_at dksX5_passes_4 14 rfl rfl)
theorem dX5_passes_109 : decode cX5_passes 109 = .ok (.iadd, 1) := dk_96 (dk_at dksX5_passes_4 15 rfl rfl)
theorem dX5_passes_110 : decode cX5_passes 110 = .ok (.istore_n 1, 1) := dk_60 (dk_at dksX5_passes_4 16 rfl rfl)
theorem dX5_passes_111 : decode cX5_passes 111 = .ok (.iinc 2 1, 3) := dk_132 2 1 (dk_at dksX5_passes_4 17 rfl rfl)
theorem dX5_passes_114 : decode cX5_passes 114 = .ok (.goto (-34), 3) := dk_167 255 222 (dk_at dksX5_passes_4 20 rfl rfl)
theorem dX5_passes_117 : decode cX5_passes 117 = .ok (.aload_n 0, 1) := dk_42 (dk_at dksX5_passes_4 23 rfl rfl)
theorem dX5_passes_118 : decode cX5_passes 118 = .ok (.ldc 175, 2) := dk_18 175 (dk_at dksX5_passes_5 0 rfl rfl)
theorem dX5_passes_120 : decode cX5_passes 120 = .ok (.aload_n 0, 1) := dk_42 (dk_at dksX5_passes_5 2 rfl rfl)
theorem dX5_passes_121 : decode cX5_passes 121 = .ok (.getfield 44, 3) := dk_180 0 44 (dk_at dksX5_passes_5 3 rfl rfl)
theorem dX5_passes_124 : decode cX5_passes 124 = .ok (.iload_n 1, 1) := dk_27 (dk_at dksX5_passes_5 6 rfl rfl)
theorem dX5_passes_125 : decode cX5_passes 125 = .ok (.iadd, 1) := dk_96 (dk_at dksX5_passes_5 7 rfl rfl)
theorem dX5_passes_126 : decode cX5_passes 126 = .ok (.invokestatic 81, 3) := dk_184 0 81 (dk_at dksX5_passes_5 8 rfl rfl)
theorem dX5_passes_129 : decode cX5_passes 129 = .ok (.putfield 44, 3) := dk_181 0 44 (dk_at dksX5_passes_5 11 rfl rfl)
theorem dX5_passes_132 : decode cX5_passes 132 = .ok (.aload_n 0, 1) := dk_42 (dk_at dksX5_passes_5 14 rfl rfl)
theorem dX5_passes_133 : decode cX5_passes 133 = .ok (.aload_n 0, 1) := dk_42 (dk_at dksX5_passes_5 15 rfl rfl)
theorem dX5_passes_134 : decode cX5_passes 134 = .ok (.invokevirtual 176, 3) := dk_182 0 176 (dk_at dksX5_passes_5 16 rfl rfl)
theorem dX5_passes_137 : decode cX5_passes 137 = .ok (.iload_n 1, 1) := dk_27 (dk_at dksX5_passes_5 19 rfl rfl)
theorem dX5_passes_138 : decode cX5_passes 138 = .ok (.invokevirtual 179, 3) := dk_182 0 179 (dk_at dksX5_passes_5 20 rfl rfl)
theorem dX5_passes_141 : decode cX5_passes 141 = .ok (.aload_n 0, 1) := dk_42 (dk_at dksX5_passes_5 23 rfl rfl)
theorem dX5_passes_142 : decode cX5_passes 142 = .ok (.dup, 1) := dk_89 (dk_at dksX5_passes_6 0 rfl rfl)
theorem dX5_passes_143 : decode cX5_passes 143 = .ok (.getfield 40, 3) := dk_180 0 40 (dk_at dksX5_passes_6 1 rfl rfl)
theorem dX5_passes_146 : decode cX5_passes 146 = .ok (.iconst 1, 1) := dk_4 (dk_at dksX5_passes_6 4 rfl rfl)
theorem dX5_passes_147 : decode cX5_passes 147 = .ok (.iadd, 1) := dk_96 (dk_at dksX5_passes_6 5 rfl rfl)
theorem dX5_passes_148 : decode cX5_passes 148 = .ok (.putfield 40, 3) := dk_181 0 40 (dk_at dksX5_passes_6 6 rfl rfl)
theorem dX5_passes_151 : decode cX5_passes 151 = .ok (.iload_n 1, 1) := dk_27 (dk_at dksX5_passes_6 9 rfl rfl)
theorem dX5_passes_152 : decode cX5_passes 152 = .ok (.ireturn, 1) := dk_172 (dk_at dksX5_passes_6 10 rfl rfl)
abbrev cX5_moves : ByteArray := prog_15_method_14_code
def yX5_moves : MethodName := ⟨RX5, "moves", "(I)V"⟩
def dkwX5_moves_3 : List UInt8 := [132, 5, 2, 167, 255, 204, 42, 180, 0, 15, 27, 28, 79, 177]
abbrev dktX5_moves_3 : List UInt8 := dkwX5_moves_3 ++ []
def dkwX5_moves_2 : List UInt8 := [182, 0, 163, 33, 148, 157, 0, 6, 167, 0, 14, 42, 27, 21, 5, 182, 0, 163, 66, 21, 5, 61]
abbrev dktX5_moves_2 : List UInt8 := dkwX5_moves_2 ++ dktX5_moves_3
def dkwX5_moves_1 : List UInt8 := [180, 0, 15, 27, 46, 4, 96, 163, 0, 45, 42, 27, 21, 5, 182, 0, 159, 153, 0, 29, 42, 27, 21, 5]
abbrev dktX5_moves_1 : List UInt8 := dkwX5_moves_1 ++ dktX5_moves_2
def dkwX5_moves_0 : List UInt8 := [42, 180, 0, 15, 27, 46, 61, 9, 66, 42, 180, 0, 15, 27, 46, 4, 100, 54, 5, 21, 5, 42]
abbrev dktX5_moves_0 : List UInt8 := dkwX5_moves_0 ++ dktX5_moves_1
theorem dksX5_moves_0 : cX5_moves.data.toList.drop 0 = dktX5_moves_0 := by decide +kernel
theorem dksX5_moves_1 : cX5_moves.data.toList.drop 22 = dktX5_moves_1 := dk_seg dksX5_moves_0 22 rfl rfl
theorem dksX5_moves_2 : cX5_moves.data.toList.drop 46 = dktX5_moves_2 := dk_seg dksX5_moves_1 24 rfl rfl
theorem dksX5_moves_3 : cX5_moves.data.toList.drop 68 = dktX5_moves_3 := dk_seg dksX5_moves_2 22 rfl rfl
theorem dX5_moves_0 : decode cX5_moves 0 = .ok (.aload_n 0, 1) := dk_42 (dk_at dksX5_moves_0 0 rfl rfl)
theorem dX5_moves_1 : decode cX5_moves 1 = .ok (.getfield 15, 3) := dk_180 0 15 (dk_at dksX5_moves_0 1 rfl rfl)
theorem dX5_moves_4 : decode cX5_moves 4 = .ok (.iload_n 1, 1) := dk_27 (dk_at dksX5_moves_0 4 rfl rfl)
theorem dX5_moves_5 : decode cX5_moves 5 = .ok (.iaload, 1) := dk_46 (dk_at dksX5_moves_0 5 rfl rfl)
theorem dX5_moves_6 : decode cX5_moves 6 = .ok (.istore_n 2, 1) := dk_61 (dk_at dksX5_moves_0 6 rfl rfl)
theorem dX5_moves_7 : decode cX5_moves 7 = .ok (.lconst 0, 1) := dk_9 (dk_at dksX5_moves_0 7 rfl rfl)
theorem dX5_moves_8 : decode cX5_moves 8 = .ok (.lstore_n 3, 1) := dk_66 (dk_at dksX5_moves_0 8 rfl rfl)
theorem dX5_moves_9 : decode cX5_moves 9 = .ok (.aload_n 0, 1) := dk_42 (dk_at dksX5_moves_0 9 rfl rfl)
theorem dX5_moves_10 : decode cX5_moves 10 = .ok (.getfield 15, 3) := dk_180 0 15 (dk_at dksX5_moves_0 10 rfl rfl)
theorem dX5_moves_13 : decode cX5_moves 13 = .ok (.iload_n 1, 1) := dk_27 (dk_at dksX5_moves_0 13 rfl rfl)
theorem dX5_moves_14 : decode cX5_moves 14 = .ok (.iaload, 1) := dk_46 (dk_at dksX5_moves_0 14 rfl rfl)
theorem dX5_moves_15 : decode cX5_moves 15 = .ok (.iconst 1, 1) := dk_4 (dk_at dksX5_moves_0 15 rfl rfl)
theorem dX5_moves_16 : decode cX5_moves 16 = .ok (.isub, 1) := dk_100 (dk_at dksX5_moves_0 16 rfl rfl)
theorem dX5_moves_17 : decode cX5_moves 17 = .ok (.istore 5, 2) := dk_54 5 (dk_at dksX5_moves_0 17 rfl rfl)
theorem dX5_moves_19 : decode cX5_moves 19 = .ok (.iload 5, 2) := dk_21 5 (dk_at dksX5_moves_0 19 rfl rfl)
theorem dX5_moves_21 : decode cX5_moves 21 = .ok (.aload_n 0, 1) := dk_42 (dk_at dksX5_moves_0 21 rfl rfl)
theorem dX5_moves_22 : decode cX5_moves 22 = .ok (.getfield 15, 3) := dk_180 0 15 (dk_at dksX5_moves_1 0 rfl rfl)
theorem dX5_moves_25 : decode cX5_moves 25 = .ok (.iload_n 1, 1) := dk_27 (dk_at dksX5_moves_1 3 rfl rfl)
theorem dX5_moves_26 : decode cX5_moves 26 = .ok (.iaload, 1) := dk_46 (dk_at dksX5_moves_1 4 rfl rfl)
theorem dX5_moves_27 : decode cX5_moves 27 = .ok (.iconst 1, 1) := dk_4 (dk_at dksX5_moves_1 5 rfl rfl)
theorem dX5_moves_28 : decode cX5_moves 28 = .ok (.iadd, 1) := dk_96 (dk_at dksX5_moves_1 6 rfl rfl)
theorem dX5_moves_29 : decode cX5_moves 29 = .ok (.if_icmp .gt 45, 3) := dk_163 0 45 (dk_at dksX5_moves_1 7 rfl rfl)
theorem dX5_moves_32 : decode cX5_moves 32 = .ok (.aload_n 0, 1) := dk_42 (dk_at dksX5_moves_1 10 rfl rfl)
theorem dX5_moves_33 : decode cX5_moves 33 = .ok (.iload_n 1, 1) := dk_27 (dk_at dksX5_moves_1 11 rfl rfl)
theorem dX5_moves_34 : decode cX5_moves 34 = .ok (.iload 5, 2) := dk_21 5 (dk_at dksX5_moves_1 12 rfl rfl)
theorem dX5_moves_36 : decode cX5_moves 36 = .ok (.invokevirtual 159, 3) := dk_182 0 159 (dk_at dksX5_moves_1 14 rfl rfl)
theorem dX5_moves_39 : decode cX5_moves 39 = .ok (.ifCond .eq 29, 3) := dk_153 0 29 (dk_at dksX5_moves_1 17 rfl rfl)
theorem dX5_moves_42 : decode cX5_moves 42 = .ok (.aload_n 0, 1) := dk_42 (dk_at dksX5_moves_1 20 rfl rfl)
theorem dX5_moves_43 : decode cX5_moves 43 = .ok (.iload_n 1, 1) := dk_27 (dk_at dksX5_moves_1 21 rfl rfl)
theorem dX5_moves_44 : decode cX5_moves 44 = .ok (.iload 5, 2) := dk_21 5 (dk_at dksX5_moves_1 22 rfl rfl)
theorem dX5_moves_46 : decode cX5_moves 46 = .ok (.invokevirtual 163, 3) := dk_182 0 163 (dk_at dksX5_moves_2 0 rfl rfl)
theorem dX5_moves_49 : decode cX5_moves 49 = .ok (.lload_n 3, 1) := dk_33 (dk_at dksX5_moves_2 3 rfl rfl)
theorem dX5_moves_50 : decode cX5_moves 50 = .ok (.lcmp, 1) := dk_148 (dk_at dksX5_moves_2 4 rfl rfl)
theorem dX5_moves_51 : decode cX5_moves 51 = .ok (.ifCond .gt 6, 3) := dk_157 0 6 (dk_at dksX5_moves_2 5 rfl rfl)
theorem dX5_moves_54 : decode cX5_moves 54 = .ok (.goto 14, 3) := dk_167 0 14 (dk_at dksX5_moves_2 8 rfl rfl)
theorem dX5_moves_57 : decode cX5_moves 57 = .ok (.aload_n 0, 1) := dk_42 (dk_at dksX5_moves_2 11 rfl rfl)
theorem dX5_moves_58 : decode cX5_moves 58 = .ok (.iload_n 1, 1) := dk_27 (dk_at dksX5_moves_2 12 rfl rfl)
theorem dX5_moves_59 : decode cX5_moves 59 = .ok (.iload 5, 2) := dk_21 5 (dk_at dksX5_moves_2 13 rfl rfl)
theorem dX5_moves_61 : decode cX5_moves 61 = .ok (.invokevirtual 163, 3) := dk_182 0 163 (dk_at dksX5_moves_2 15 rfl rfl)
theorem dX5_moves_64 : decode cX5_moves 64 = .ok (.lstore_n 3, 1) := dk_66 (dk_at dksX5_moves_2 18 rfl rfl)
theorem dX5_moves_65 : decode cX5_moves 65 = .ok (.iload 5, 2) := dk_21 5 (dk_at dksX5_moves_2 19 rfl rfl)
theorem dX5_moves_67 : decode cX5_moves 67 = .ok (.istore_n 2, 1) := dk_61 (dk_at dksX5_moves_2 21 rfl rfl)
theorem dX5_moves_68 : decode cX5_moves 68 = .ok (.iinc 5 2, 3) := dk_132 5 2 (dk_at dksX5_moves_3 0 rfl rfl)
theorem dX5_moves_71 : decode cX5_moves 71 = .ok (.goto (-52), 3) := dk_167 255 204 (dk_at dksX5_moves_3 3 rfl rfl)
theorem dX5_moves_74 : decode cX5_moves 74 = .ok (.aload_n 0, 1) := dk_42 (dk_at dksX5_moves_3 6 rfl rfl)
theorem dX5_moves_75 : decode cX5_moves 75 = .ok (.getfield 15, 3) := dk_180 0 15 (dk_at dksX5_moves_3 7 rfl rfl)
theorem dX5_moves_78 : decode cX5_moves 78 = .ok (.iload_n 1, 1) := dk_27 (dk_at dksX5_moves_3 10 rfl rfl)
theorem dX5_moves_79 : decode cX5_moves 79 = .ok (.iload_n 2, 1) := dk_28 (dk_at dksX5_moves_3 11 rfl rfl)
theorem dX5_moves_80 : decode cX5_moves 80 = .ok (.iastore, 1) := dk_79 (dk_at dksX5_moves_3 12 rfl rfl)
theorem dX5_moves_81 : decode cX5_moves 81 = .ok (.return_, 1) := dk_177 (dk_at dksX5_moves_3 13 rfl rfl)
abbrev cX5_canGo : ByteArray := prog_15_method_13_code
def yX5_canGo : MethodName := ⟨RX5, "canGo", "(II)Z"⟩
def dkwX5_canGo_3 : List UInt8 := [46, 100, 184, 0, 153, 42, 180, 0, 3, 180, 0, 50, 180, 0, 156, 163, 0, 7, 4, 167, 0, 4, 3, 172]
abbrev dktX5_canGo_3 : List UInt8 := dkwX5_canGo_3 ++ []
def dkwX5_canGo_2 : List UInt8 := [163, 0, 46, 27, 42, 180, 0, 3, 182, 0, 78, 4, 100, 159, 0, 29, 28, 42, 180, 0, 15, 27, 4, 96]
abbrev dktX5_canGo_2 : List UInt8 := dkwX5_canGo_2 ++ dktX5_canGo_3
def dkwX5_canGo_1 : List UInt8 := [28, 42, 180, 0, 15, 27, 4, 100, 46, 100, 184, 0, 153, 42, 180, 0, 3, 180, 0, 50, 180, 0, 156]
abbrev dktX5_canGo_1 : List UInt8 := dkwX5_canGo_1 ++ dktX5_canGo_2
def dkwX5_canGo_0 : List UInt8 := [28, 3, 42, 180, 0, 3, 180, 0, 50, 180, 0, 147, 4, 100, 184, 0, 149, 153, 0, 76, 27, 153, 0, 29]
abbrev dktX5_canGo_0 : List UInt8 := dkwX5_canGo_0 ++ dktX5_canGo_1
theorem dksX5_canGo_0 : cX5_canGo.data.toList.drop 0 = dktX5_canGo_0 := by decide +kernel
theorem dksX5_canGo_1 : cX5_canGo.data.toList.drop 24 = dktX5_canGo_1 := dk_seg dksX5_canGo_0 24 rfl rfl
theorem dksX5_canGo_2 : cX5_canGo.data.toList.drop 47 = dktX5_canGo_2 := dk_seg dksX5_canGo_1 23 rfl rfl
theorem dksX5_canGo_3 : cX5_canGo.data.toList.drop 71 = dktX5_canGo_3 := dk_seg dksX5_canGo_2 24 rfl rfl
theorem dX5_canGo_0 : decode cX5_canGo 0 = .ok (.iload_n 2, 1) := dk_28 (dk_at dksX5_canGo_0 0 rfl rfl)
theorem dX5_canGo_1 : decode cX5_canGo 1 = .ok (.iconst 0, 1) := dk_3 (dk_at dksX5_canGo_0 1 rfl rfl)
theorem dX5_canGo_2 : decode cX5_canGo 2 = .ok (.aload_n 0, 1) := dk_42 (dk_at dksX5_canGo_0 2 rfl rfl)
theorem dX5_canGo_3 : decode cX5_canGo 3 = .ok (.getfield 3, 3) := dk_180 0 3 (dk_at dksX5_canGo_0 3 rfl rfl)
theorem dX5_canGo_6 : decode cX5_canGo 6 = .ok (.getfield 50, 3) := dk_180 0 50 (dk_at dksX5_canGo_0 6 rfl rfl)
theorem dX5_canGo_9 : decode cX5_canGo 9 = .ok (.getfield 147, 3) := dk_180 0 147 (dk_at dksX5_canGo_0 9 rfl rfl)
theorem dX5_canGo_12 : decode cX5_canGo 12 = .ok (.iconst 1, 1) := dk_4 (dk_at dksX5_canGo_0 12 rfl rfl)
theorem dX5_canGo_13 : decode cX5_canGo 13 = .ok (.isub, 1) := dk_100 (dk_at dksX5_canGo_0 13 rfl rfl)
theorem dX5_canGo_14 : decode cX5_canGo 14 = .ok (.invokestatic 149, 3) := dk_184 0 149 (dk_at dksX5_canGo_0 14 rfl rfl)
theorem dX5_canGo_17 : decode cX5_canGo 17 = .ok (.ifCond .eq 76, 3) := dk_153 0 76 (dk_at dksX5_canGo_0 17 rfl rfl)
theorem dX5_canGo_20 : decode cX5_canGo 20 = .ok (.iload_n 1, 1) := dk_27 (dk_at dksX5_canGo_0 20 rfl rfl)
theorem dX5_canGo_21 : decode cX5_canGo 21 = .ok (.ifCond .eq 29, 3) := dk_153 0 29 (dk_at dksX5_canGo_0 21 rfl rfl)
theorem dX5_canGo_24 : decode cX5_canGo 24 = .ok (.iload_n 2, 1) := dk_28 (dk_at dksX5_canGo_1 0 rfl rfl)
theorem dX5_canGo_25 : decode cX5_canGo 25 = .ok (.aload_n 0, 1) := dk_42 (dk_at dksX5_canGo_1 1 rfl rfl)
theorem dX5_canGo_26 : decode cX5_canGo 26 = .ok (.getfield 15, 3) := dk_180 0 15 (dk_at dksX5_canGo_1 2 rfl rfl)
theorem dX5_canGo_29 : decode cX5_canGo 29 = .ok (.iload_n 1, 1) := dk_27 (dk_at dksX5_canGo_1 5 rfl rfl)
theorem dX5_canGo_30 : decode cX5_canGo 30 = .ok (.iconst 1, 1) := dk_4 (dk_at dksX5_canGo_1 6 rfl rfl)
theorem dX5_canGo_31 : decode cX5_canGo 31 = .ok (.isub, 1) := dk_100 (dk_at dksX5_canGo_1 7 rfl rfl)
theorem dX5_canGo_32 : decode cX5_canGo 32 = .ok (.iaload, 1) := dk_46 (dk_at dksX5_canGo_1 8 rfl rfl)
theorem dX5_canGo_33 : decode cX5_canGo 33 = .ok (.isub, 1) := dk_100 (dk_at dksX5_canGo_1 9 rfl rfl)
theorem dX5_canGo_34 : decode cX5_canGo 34 = .ok (.invokestatic 153, 3) := dk_184 0 153 (dk_at dksX5_canGo_1 10 rfl rfl)
theorem dX5_canGo_37 : decode cX5_canGo 37 = .ok (.aload_n 0, 1) := dk_42 (dk_at dksX5_canGo_1 13 rfl rfl)
theorem dX5_canGo_38 : decode cX5_canGo 38 = .ok (.getfield 3, 3) := dk_180 0 3 (dk_at dksX5_canGo_1 14 rfl rfl)
theorem dX5_canGo_41 : decode cX5_canGo 41 = .ok (.getfield 50, 3) := dk_180 0 50 (dk_at dksX5_canGo_1 17 rfl rfl)
theorem dX5_canGo_44 : decode cX5_canGo 44 = .ok (.getfield 156, 3) := dk_180 0 156 (dk_at dksX5_canGo_1 20 rfl rfl)
theorem dX5_canGo_47 : decode cX5_canGo 47 = .ok (.if_icmp .gt 46, 3) := dk_163 0 46 (dk_at dksX5_canGo_2 0 rfl rfl)
theorem dX5_canGo_50 : decode cX5_canGo 50 = .ok (.iload_n 1, 1) := dk_27 (dk_at dksX5_canGo_2 3 rfl rfl)
theorem dX5_canGo_51 : decode cX5_canGo 51 = .ok (.aload_n 0, 1) := dk_42 (dk_at dksX5_canGo_2 4 rfl rfl)
theorem dX5_canGo_52 : decode cX5_canGo 52 = .ok (.getfield 3, 3) := dk_180 0 3 (dk_at dksX5_canGo_2 5 rfl rfl)
theorem dX5_canGo_55 : decode cX5_canGo 55 = .ok (.invokevirtual 78, 3) := dk_182 0 78 (dk_at dksX5_canGo_2 8 rfl rfl)
theorem dX5_canGo_58 : decode cX5_canGo 58 = .ok (.iconst 1, 1) := dk_4 (dk_at dksX5_canGo_2 11 rfl rfl)
theorem dX5_canGo_59 : decode cX5_canGo 59 = .ok (.isub, 1) := dk_100 (dk_at dksX5_canGo_2 12 rfl rfl)
theorem dX5_canGo_60 : decode cX5_canGo 60 = .ok (.if_icmp .eq 29, 3) := dk_159 0 29 (dk_at dksX5_canGo_2 13 rfl rfl)
theorem dX5_canGo_63 : decode cX5_canGo 63 = .ok (.iload_n 2, 1) := dk_28 (dk_at dksX5_canGo_2 16 rfl rfl)
theorem dX5_canGo_64 : decode cX5_canGo 64 = .ok (.aload_n 0, 1) := dk_42 (dk_at dksX5_canGo_2 17 rfl rfl)
theorem dX5_canGo_65 : decode cX5_canGo 65 = .ok (.getfield 15, 3) := dk_180 0 15 (dk_at dksX5_canGo_2 18 rfl rfl)
theorem dX5_canGo_68 : decode cX5_canGo 68 = .ok (.iload_n 1, 1) := dk_27 (dk_at dksX5_canGo_2 21 rfl rfl)
theorem dX5_canGo_69 : decode cX5_canGo 69 = .ok (.iconst 1, 1) := dk_4 (dk_at dksX5_canGo_2 22 rfl rfl)
theorem dX5_canGo_70 : decode cX5_canGo 70 = .ok (.iadd, 1) := dk_96 (dk_at dksX5_canGo_2 23 rfl rfl)
theorem dX5_canGo_71 : decode cX5_canGo 71 = .ok (.iaload, 1) := dk_46 (dk_at dksX5_canGo_3 0 rfl rfl)
theorem dX5_canGo_72 : decode cX5_canGo 72 = .ok (.isub, 1) := dk_100 (dk_at dksX5_canGo_3 1 rfl rfl)
theorem dX5_canGo_73 : decode cX5_canGo 73 = .ok (.invokestatic 153, 3) := dk_184 0 153 (dk_at dksX5_canGo_3 2 rfl rfl)
theorem dX5_canGo_76 : decode cX5_canGo 76 = .ok (.aload_n 0, 1) := dk_42 (dk_at dksX5_canGo_3 5 rfl rfl)
theorem dX5_canGo_77 : decode cX5_canGo 77 = .ok (.getfield 3, 3) := dk_180 0 3 (dk_at dksX5_canGo_3 6 rfl rfl)
theorem dX5_canGo_80 : decode cX5_canGo 80 = .ok (.getfield 50, 3) := dk_180 0 50 (dk_at dksX5_canGo_3 9 rfl rfl)
theorem dX5_canGo_83 : decode cX5_canGo 83 = .ok (.getfield 156, 3) := dk_180 0 156 (dk_at dksX5_canGo_3 12 rfl rfl)
theorem dX5_canGo_86 : decode cX5_canGo 86 = .ok (.if_icmp .gt 7, 3) := dk_163 0 7 (dk_at dksX5_canGo_3 15 rfl rfl)
theorem dX5_canGo_89 : decode cX5_canGo 89 = .ok (.iconst 1, 1) := dk_4 (dk_at dksX5_canGo_3 18 rfl rfl)
theorem dX5_canGo_90 : decode cX5_canGo 90 = .ok (.goto 4, 3) := dk_167 0 4 (dk_at dksX5_canGo_3 19 rfl rfl)
theorem dX5_canGo_93 : decode cX5_canGo 93 = .ok (.iconst 0, 1) := dk_3 (dk_at dksX5_canGo_3 22 rfl rfl)
theorem dX5_canGo_94 : decode cX5_canGo 94 = .ok (.ireturn, 1) := dk_172 (dk_at dksX5_canGo_3 23 rfl rfl)
abbrev cX5_pays : ByteArray := prog_15_method_16_code
def yX5_pays : MethodName := ⟨RX5, "pays", "(I)I"⟩
def dkwX5_pays_3 : List UInt8 := [180, 0, 166, 21, 4, 100, 96, 79, 132, 3, 1, 167, 255, 178, 28, 172]
abbrev dktX5_pays_3 : List UInt8 := dkwX5_pays_3 ++ []
def dkwX5_pays_2 : List UInt8 := [21, 4, 100, 79, 28, 21, 4, 96, 61, 42, 180, 0, 37, 29, 92, 46, 42, 180, 0, 3, 29, 182, 0, 64]
abbrev dktX5_pays_2 : List UInt8 := dkwX5_pays_2 ++ dktX5_pays_3
def dkwX5_pays_1 : List UInt8 := [182, 0, 98, 154, 0, 6, 167, 0, 49, 42, 29, 182, 0, 102, 54, 4, 42, 180, 0, 19, 29, 92, 46]
abbrev dktX5_pays_1 : List UInt8 := dkwX5_pays_1 ++ dktX5_pays_2
def dkwX5_pays_0 : List UInt8 := [3, 61, 3, 62, 29, 42, 180, 0, 3, 182, 0, 60, 162, 0, 73, 42, 180, 0, 3, 29, 182, 0, 64, 27]
abbrev dktX5_pays_0 : List UInt8 := dkwX5_pays_0 ++ dktX5_pays_1
theorem dksX5_pays_0 : cX5_pays.data.toList.drop 0 = dktX5_pays_0 := by decide +kernel
theorem dksX5_pays_1 : cX5_pays.data.toList.drop 24 = dktX5_pays_1 := dk_seg dksX5_pays_0 24 rfl rfl
theorem dksX5_pays_2 : cX5_pays.data.toList.drop 47 = dktX5_pays_2 := dk_seg dksX5_pays_1 23 rfl rfl
theorem dksX5_pays_3 : cX5_pays.data.toList.drop 71 = dktX5_pays_3 := dk_seg dksX5_pays_2 24 rfl rfl
theorem dX5_pays_0 : decode cX5_pays 0 = .ok (.iconst 0, 1) := dk_3 (dk_at dksX5_pays_0 0 rfl rfl)
theorem dX5_pays_1 : decode cX5_pays 1 = .ok (.istore_n 2, 1) := dk_61 (dk_at dksX5_pays_0 1 rfl rfl)
theorem dX5_pays_2 : decode cX5_pays 2 = .ok (.iconst 0, 1) := dk_3 (dk_at dksX5_pays_0 2 rfl rfl)
theorem dX5_pays_3 : decode cX5_pays 3 = .ok (.istore_n 3, 1) := dk_62 (dk_at dksX5_pays_0 3 rfl rfl)
theorem dX5_pays_4 : decode cX5_pays 4 = .ok (.iload_n 3, 1) := dk_29 (dk_at dksX5_pays_0 4 rfl rfl)
theorem dX5_pays_5 : decode cX5_pays 5 = .ok (.aload_n 0, 1) := dk_42 (dk_at dksX5_pays_0 5 rfl rfl)
theorem dX5_pays_6 : decode cX5_pays 6 = .ok (.getfield 3, 3) := dk_180 0 3 (dk_at dksX5_pays_0 6 rfl rfl)
theorem dX5_pays_9 : decode cX5_pays 9 = .ok (.invokevirtual 60, 3) := dk_182 0 60 (dk_at dksX5_pays_0 9 rfl rfl)
theorem dX5_pays_12 : decode cX5_pays 12 = .ok (.if_icmp .ge 73, 3) := dk_162 0 73 (dk_at dksX5_pays_0 12 rfl rfl)
theorem dX5_pays_15 : decode cX5_pays 15 = .ok (.aload_n 0, 1) := dk_42 (dk_at dksX5_pays_0 15 rfl rfl)
theorem dX5_pays_16 : decode cX5_pays 16 = .ok (.getfield 3, 3) := dk_180 0 3 (dk_at dksX5_pays_0 16 rfl rfl)
theorem dX5_pays_19 : decode cX5_pays 19 = .ok (.iload_n 3, 1) := dk_29 (dk_at dksX5_pays_0 19 rfl rfl)
theorem dX5_pays_20 : decode cX5_pays 20 = .ok (.invokevirtual 64, 3) := dk_182 0 64 (dk_at dksX5_pays_0 20 rfl rfl)
theorem dX5_pays_23 : decode cX5_pays 23 = .ok (.iload_n 1, 1) := dk_27 (dk_at dksX5_pays_0 23 rfl rfl)
theorem dX5_pays_24 : decode cX5_pays 24 = .ok (.invokevirtual 98, 3) := dk_182 0 98 (dk_at dksX5_pays_1 0 rfl rfl)
theorem dX5_pays_27 : decode cX5_pays 27 = .ok (.ifCond .ne 6, 3) := dk_154 0 6 (dk_at dksX5_pays_1 3 rfl rfl)
theorem dX5_pays_30 : decode cX5_pays 30 = .ok (.goto 49, 3) := dk_167 0 49 (dk_at dksX5_pays_1 6 rfl rfl)
theorem dX5_pays_33 : decode cX5_pays 33 = .ok (.aload_n 0, 1) := dk_42 (dk_at dksX5_pays_1 9 rfl rfl)
theorem dX5_pays_34 : decode cX5_pays 34 = .ok (.iload_n 3, 1) := dk_29 (dk_at dksX5_pays_1 10 rfl rfl)
theorem dX5_pays_35 : decode cX5_pays 35 = .ok (.invokevirtual 102, 3) := dk_182 0 102 (dk_at dksX5_pays_1 11 rfl rfl)
theorem dX5_pays_38 : decode cX5_pays 38 = .ok (.istore 4, 2) := dk_54 4 (dk_at dksX5_pays_1 14 rfl rfl)
theorem dX5_pays_40 : decode cX5_pays 40 = .ok (.aload_n 0, 1) := dk_42 (dk_at dksX5_pays_1 16 rfl rfl)
theorem dX5_pays_41 : decode cX5_pays 41 = .ok (.getfield 19, 3) := dk_180 0 19 (dk_at dksX5_pays_1 17 rfl rfl)
theorem dX5_pays_44 : decode cX5_pays 44 = .ok (.iload_n 3, 1) := dk_29 (dk_at dksX5_pays_1 20 rfl rfl)
theorem dX5_pays_45 : decode cX5_pays 45 = .ok (.dup2, 1) := dk_92 (dk_at dksX5_pays_1 21 rfl rfl)
theorem dX5_pays_46 : decode cX5_pays 46 = .ok (.iaload, 1) := dk_46 (dk_at dksX5_pays_1 22 rfl rfl)
theorem dX5_pays_47 : decode cX5_pays 47 = .ok (.iload 4, 2) := dk_21 4 (dk_at dksX5_pays_2 0 rfl rfl)
theorem dX5_pays_49 : decode cX5_pays 49 = .ok (.isub, 1) := dk_100 (dk_at dksX5_pays_2 2 rfl rfl)
theorem dX5_pays_50 : decode cX5_pays 50 = .ok (.iastore, 1) := dk_79 (dk_at dksX5_pays_2 3 rfl rfl)
theorem dX5_pays_51 : decode cX5_pays 51 = .ok (.iload_n 2, 1) := dk_28 (dk_at dksX5_pays_2 4 rfl rfl)
theorem dX5_pays_52 : decode cX5_pays 52 = .ok (.iload 4, 2) := dk_21 4 (dk_at dksX5_pays_2 5 rfl rfl)
theorem dX5_pays_54 : decode cX5_pays 54 = .ok (.iadd, 1) := dk_96 (dk_at dksX5_pays_2 7 rfl rfl)
theorem dX5_pays_55 : decode cX5_pays 55 = .ok (.istore_n 2, 1) := dk_61 (dk_at dksX5_pays_2 8 rfl rfl)
theorem dX5_pays_56 : decode cX5_pays 56 = .ok (.aload_n 0, 1) := dk_42 (dk_at dksX5_pays_2 9 rfl rfl)
theorem dX5_pays_57 : decode cX5_pays 57 = .ok (.getfield 37, 3) := dk_180 0 37 (dk_at dksX5_pays_2 10 rfl rfl)
theorem dX5_pays_60 : decode cX5_pays 60 = .ok (.iload_n 3, 1) := dk_29 (dk_at dksX5_pays_2 13 rfl rfl)
theorem dX5_pays_61 : decode cX5_pays 61 = .ok (.dup2, 1) := dk_92 (dk_at dksX5_pays_2 14 rfl rfl)
theorem dX5_pays_62 : decode cX5_pays 62 = .ok (.iaload, 1) := dk_46 (dk_at dksX5_pays_2 15 rfl rfl)
theorem dX5_pays_63 : decode cX5_pays 63 = .ok (.aload_n 0, 1) := dk_42 (dk_at dksX5_pays_2 16 rfl rfl)
theorem dX5_pays_64 : decode cX5_pays 64 = .ok (.getfield 3, 3) := dk_180 0 3 (dk_at dksX5_pays_2 17 rfl rfl)
theorem dX5_pays_67 : decode cX5_pays 67 = .ok (.iload_n 3, 1) := dk_29 (dk_at dksX5_pays_2 20 rfl rfl)
theorem dX5_pays_68 : decode cX5_pays 68 = .ok (.invokevirtual 64, 3) := dk_182 0 64 (dk_at dksX5_pays_2 21 rfl rfl)
theorem dX5_pays_71 : decode cX5_pays 71 = .ok (.getfield 166, 3) := dk_180 0 166 (dk_at dksX5_pays_3 0 rfl rfl)
theorem dX5_pays_74 : decode cX5_pays 74 = .ok (.iload 4, 2) := dk_21 4 (dk_at dksX5_pays_3 3 rfl rfl)
theorem dX5_pays_76 : decode cX5_pays 76 = .ok (.isub, 1) := dk_100 (dk_at dksX5_pays_3 5 rfl rfl)
theorem dX5_pays_77 : decode cX5_pays 77 = .ok (.iadd, 1) := dk_96 (dk_at dksX5_pays_3 6 rfl rfl)
theorem dX5_pays_78 : decode cX5_pays 78 = .ok (.iastore, 1) := dk_79 (dk_at dksX5_pays_3 7 rfl rfl)
theorem dX5_pays_79 : decode cX5_pays 79 = .ok (.iinc 3 1, 3) := dk_132 3 1 (dk_at dksX5_pays_3 8 rfl rfl)
theorem dX5_pays_82 : decode cX5_pays 82 = .ok (.goto (-78), 3) := dk_167 255 178 (dk_at dksX5_pays_3 11 rfl rfl)
theorem dX5_pays_85 : decode cX5_pays 85 = .ok (.iload_n 2, 1) := dk_28 (dk_at dksX5_pays_3 14 rfl rfl)
theorem dX5_pays_86 : decode cX5_pays 86 = .ok (.ireturn, 1) := dk_172 (dk_at dksX5_pays_3 15 rfl rfl)
abbrev cX5_tells : ByteArray := prog_15_method_15_code
def yX5_tells : MethodName := ⟨RX5, "tells", "(II)V"⟩
def dkwX5_tells_5 : List UInt8 := [177]
abbrev dktX5_tells_5 : List UInt8 := dkwX5_tells_5 ++ []
def dkwX5_tells_4 : List UInt8 := [27, 79, 42, 180, 0, 34, 42, 180, 0, 47, 50, 5, 28, 79, 42, 89, 180, 0, 47, 4, 96, 181, 0, 47]
abbrev dktX5_tells_4 : List UInt8 := dkwX5_tells_4 ++ dktX5_tells_5
def dkwX5_tells_3 : List UInt8 := [180, 0, 34, 42, 180, 0, 47, 50, 3, 42, 180, 0, 40, 79, 42, 180, 0, 34, 42, 180, 0, 47, 50, 4]
abbrev dktX5_tells_3 : List UInt8 := dkwX5_tells_3 ++ dktX5_tells_4
def dkwX5_tells_2 : List UInt8 := [167, 255, 230, 42, 180, 0, 34, 16, 39, 45, 83, 42, 89, 180, 0, 47, 4, 100, 181, 0, 47, 42]
abbrev dktX5_tells_2 : List UInt8 := dkwX5_tells_2 ++ dktX5_tells_3
def dkwX5_tells_1 : List UInt8 := [162, 0, 25, 42, 180, 0, 34, 21, 4, 4, 100, 42, 180, 0, 34, 21, 4, 50, 83, 132, 4, 1]
abbrev dktX5_tells_1 : List UInt8 := dkwX5_tells_1 ++ dktX5_tells_2
def dkwX5_tells_0 : List UInt8 := [42, 180, 0, 47, 16, 40, 160, 0, 60, 42, 180, 0, 34, 3, 50, 78, 4, 54, 4, 21, 4, 16, 40]
abbrev dktX5_tells_0 : List UInt8 := dkwX5_tells_0 ++ dktX5_tells_1
theorem dksX5_tells_0 : cX5_tells.data.toList.drop 0 = dktX5_tells_0 := by decide +kernel
theorem dksX5_tells_1 : cX5_tells.data.toList.drop 23 = dktX5_tells_1 := dk_seg dksX5_tells_0 23 rfl rfl
theorem dksX5_tells_2 : cX5_tells.data.toList.drop 45 = dktX5_tells_2 := dk_seg dksX5_tells_1 22 rfl rfl
theorem dksX5_tells_3 : cX5_tells.data.toList.drop 67 = dktX5_tells_3 := dk_seg dksX5_tells_2 22 rfl rfl
theorem dksX5_tells_4 : cX5_tells.data.toList.drop 91 = dktX5_tells_4 := dk_seg dksX5_tells_3 24 rfl rfl
theorem dksX5_tells_5 : cX5_tells.data.toList.drop 115 = dktX5_tells_5 := dk_seg dksX5_tells_4 24 rfl rfl
theorem dX5_tells_0 : decode cX5_tells 0 = .ok (.aload_n 0, 1) := dk_42 (dk_at dksX5_tells_0 0 rfl rfl)
theorem dX5_tells_1 : decode cX5_tells 1 = .ok (.getfield 47, 3) := dk_180 0 47 (dk_at dksX5_tells_0 1 rfl rfl)
theorem dX5_tells_4 : decode cX5_tells 4 = .ok (.bipush 40, 2) := dk_16 40 (dk_at dksX5_tells_0 4 rfl rfl)
theorem dX5_tells_6 : decode cX5_tells 6 = .ok (.if_icmp .ne 60, 3) := dk_160 0 60 (dk_at dksX5_tells_0 6 rfl rfl)
theorem dX5_tells_9 : decode cX5_tells 9 = .ok (.aload_n 0, 1) := dk_42 (dk_at dksX5_tells_0 9 rfl rfl)
theorem dX5_tells_10 : decode cX5_tells 10 = .ok (.getfield 34, 3) := dk_180 0 34 (dk_at dksX5_tells_0 10 rfl rfl)
theorem dX5_tells_13 : decode cX5_tells 13 = .ok (.iconst 0, 1) := dk_3 (dk_at dksX5_tells_0 13 rfl rfl)
theorem dX5_tells_14 : decode cX5_tells 14 = .ok (.aaload, 1) := dk_50 (dk_at dksX5_tells_0 14 rfl rfl)
theorem dX5_tells_15 : decode cX5_tells 15 = .ok (.astore_n 3, 1) := dk_78 (dk_at dksX5_tells_0 15 rfl rfl)
theorem dX5_tells_16 : decode cX5_tells 16 = .ok (.iconst 1, 1) := dk_4 (dk_at dksX5_tells_0 16 rfl rfl)
theorem dX5_tells_17 : decode cX5_tells 17 = .ok (.istore 4, 2) := dk_54 4 (dk_at dksX5_tells_0 17 rfl rfl)
theorem dX5_tells_19 : decode cX5_tells 19 = .ok (.iload 4, 2) := dk_21 4 (dk_at dksX5_tells_0 19 rfl rfl)
theorem dX5_tells_21 : decode cX5_tells 21 = .ok (.bipush 40, 2) := dk_16 40 (dk_at dksX5_tells_0 21 rfl rfl)
theorem dX5_tells_23 : decode cX5_tells 23 = .ok (.if_icmp .ge 25, 3) := dk_162 0 25 (dk_at dksX5_tells_1 0 rfl rfl)
theorem dX5_tells_26 : decode cX5_tells 26 = .ok (.aload_n 0, 1) := dk_42 (dk_at dksX5_tells_1 3 rfl rfl)
theorem dX5_tells_27 : decode cX5_tells 27 = .ok (.getfield 34, 3) := dk_180 0 34 (dk_at dksX5_tells_1 4 rfl rfl)
theorem dX5_tells_30 : decode cX5_tells 30 = .ok (.iload 4, 2) := dk_21 4 (dk_at dksX5_tells_1 7 rfl rfl)
theorem dX5_tells_32 : decode cX5_tells 32 = .ok (.iconst 1, 1) := dk_4 (dk_at dksX5_tells_1 9 rfl rfl)
theorem dX5_tells_33 : decode cX5_tells 33 = .ok (.isub, 1) := dk_100 (dk_at dksX5_tells_1 10 rfl rfl)
theorem dX5_tells_34 : decode cX5_tells 34 = .ok (.aload_n 0, 1) := dk_42 (dk_at dksX5_tells_1 11 rfl rfl)
theorem dX5_tells_35 : decode cX5_tells 35 = .ok (.getfield 34, 3) := dk_180 0 34 (dk_at dksX5_tells_1 12 rfl rfl)
theorem dX5_tells_38 : decode cX5_tells 38 = .ok (.iload 4, 2) := dk_21 4 (dk_at dksX5_tells_1 15 rfl rfl)
theorem dX5_tells_40 : decode cX5_tells 40 = .ok (.aaload, 1) := dk_50 (dk_at dksX5_tells_1 17 rfl rfl)
theorem dX5_tells_41 : decode cX5_tells 41 = .ok (.aastore, 1) := dk_83 (dk_at dksX5_tells_1 18 rfl rfl)
theorem dX5_tells_42 : decode cX5_tells 42 = .ok (.iinc 4 1, 3) := dk_132 4 1 (dk_at dksX5_tells_1 19 rfl rfl)
theorem dX5_tells_45 : decode cX5_tells 45 = .ok (.goto (-26), 3) := dk_167 255 230 (dk_at dksX5_tells_2 0 rfl rfl)
theorem dX5_tells_48 : decode cX5_tells 48 = .ok (.aload_n 0, 1) := dk_42 (dk_at dksX5_tells_2 3 rfl rfl)
theorem dX5_tells_49 : decode cX5_tells 49 = .ok (.getfield 34, 3) := dk_180 0 34 (dk_at dksX5_tells_2 4 rfl rfl)
theorem dX5_tells_52 : decode cX5_tells 52 = .ok (.bipush 39, 2) := dk_16 39 (dk_at dksX5_tells_2 7 rfl rfl)
theorem dX5_tells_54 : decode cX5_tells 54 = .ok (.aload_n 3, 1) := dk_45 (dk_at dksX5_tells_2 9 rfl rfl)
theorem dX5_tells_55 : decode cX5_tells 55 = .ok (.aastore, 1) := dk_83 (dk_at dksX5_tells_2 10 rfl rfl)
theorem dX5_tells_56 : decode cX5_tells 56 = .ok (.aload_n 0, 1) := dk_42 (dk_at dksX5_tells_2 11 rfl rfl)
theorem dX5_tells_57 : decode cX5_tells 57 = .ok (.dup, 1) := dk_89 (dk_at dksX5_tells_2 12 rfl rfl)
theorem dX5_tells_58 : decode cX5_tells 58 = .ok (.getfield 47, 3) := dk_180 0 47 (dk_at dksX5_tells_2 13 rfl rfl)
theorem dX5_tells_61 : decode cX5_tells 61 = .ok (.iconst 1, 1) := dk_4 (dk_at dksX5_tells_2 16 rfl rfl)
theorem dX5_tells_62 : decode cX5_tells 62 = .ok (.isub, 1) := dk_100 (dk_at dksX5_tells_2 17 rfl rfl)
theorem dX5_tells_63 : decode cX5_tells 63 = .ok (.putfield 47, 3) := dk_181 0 47 (dk_at dksX5_tells_2 18 rfl rfl)
theorem dX5_tells_66 : decode cX5_tells 66 = .ok (.aload_n 0, 1) := dk_42 (dk_at dksX5_tells_2 21 rfl rfl)
theorem dX5_tells_67 : decode cX5_tells 67 = .ok (.getfield 34, 3) := dk_180 0 34 (dk_at dksX5_tells_3 0 rfl rfl)
theorem dX5_tells_70 : decode cX5_tells 70 = .ok (.aload_n 0, 1) := dk_42 (dk_at dksX5_tells_3 3 rfl rfl)
theorem dX5_tells_71 : decode cX5_tells 71 = .ok (.getfield 47, 3) := dk_180 0 47 (dk_at dksX5_tells_3 4 rfl rfl)
theorem dX5_tells_74 : decode cX5_tells 74 = .ok (.aaload, 1) := dk_50 (dk_at dksX5_tells_3 7 rfl rfl)
theorem dX5_tells_75 : decode cX5_tells 75 = .ok (.iconst 0, 1) := dk_3 (dk_at dksX5_tells_3 8 rfl rfl)
theorem dX5_tells_76 : decode cX5_tells 76 = .ok (.aload_n 0, 1) := dk_42 (dk_at dksX5_tells_3 9 rfl rfl)
theorem dX5_tells_77 : decode cX5_tells 77 = .ok (.getfield 40, 3) := dk_180 0 40 (dk_at dksX5_tells_3 10 rfl rfl)
theorem dX5_tells_80 : decode cX5_tells 80 = .ok (.iastore, 1) := dk_79 (dk_at dksX5_tells_3 13 rfl rfl)
theorem dX5_tells_81 : decode cX5_tells 81 = .ok (.aload_n 0, 1) := dk_42 (dk_at dksX5_tells_3 14 rfl rfl)
theorem dX5_tells_82 : decode cX5_tells 82 = .ok (.getfield 34, 3) := dk_180 0 34 (dk_at dksX5_tells_3 15 rfl rfl)
theorem dX5_tells_85 : decode cX5_tells 85 = .ok (.aload_n 0, 1) := dk_42 (dk_at dksX5_tells_3 18 rfl rfl)
theorem dX5_tells_86 : decode cX5_tells 86 = .ok (.getfield 47, 3) := dk_180 0 47 (dk_at dksX5_tells_3 19 rfl rfl)
theorem dX5_tells_89 : decode cX5_tells 89 = .ok (.aaload, 1) := dk_50 (dk_at dksX5_tells_3 22 rfl rfl)
theorem dX5_tells_90 : decode cX5_tells 90 = .ok (.iconst 1, 1) := dk_4 (dk_at dksX5_tells_3 23 rfl rfl)
theorem dX5_tells_91 : decode cX5_tells 91 = .ok (.iload_n 1, 1) := dk_27 (dk_at dksX5_tells_4 0 rfl rfl)
theorem dX5_tells_92 : decode cX5_tells 92 = .ok (.iastore, 1) := dk_79 (dk_at dksX5_tells_4 1 rfl rfl)
theorem dX5_tells_93 : decode cX5_tells 93 = .ok (.aload_n 0, 1) := dk_42 (dk_at dksX5_tells_4 2 rfl rfl)
theorem dX5_tells_94 : decode cX5_tells 94 = .ok (.getfield 34, 3) := dk_180 0 34 (dk_at dksX5_tells_4 3 rfl rfl)
theorem dX5_tells_97 : decode cX5_tells 97 = .ok (.aload_n 0, 1) := dk_42 (dk_at dksX5_tells_4 6 rfl rfl)
theorem dX5_tells_98 : decode cX5_tells 98 = .ok (.getfield 47, 3) := dk_180 0 47 (dk_at dksX5_tells_4 7 rfl rfl)
theorem dX5_tells_101 : decode cX5_tells 101 = .ok (.aaload, 1) := dk_50 (dk_at dksX5_tells_4 10 rfl rfl)
theorem dX5_tells_102 : decode cX5_tells 102 = .ok (.iconst 2, 1) := dk_5 (dk_at dksX5_tells_4 11 rfl rfl)
theorem dX5_tells_103 : decode cX5_tells 103 = .ok (.iload_n 2, 1) := dk_28 (dk_at dksX5_tells_4 12 rfl rfl)
theorem dX5_tells_104 : decode cX5_tells 104 = .ok (.iastore, 1) := dk_79 (dk_at dksX5_tells_4 13 rfl rfl)
theorem dX5_tells_105 : decode cX5_tells 105 = .ok (.aload_n 0, 1) := dk_42 (dk_at dksX5_tells_4 14 rfl rfl)
theorem dX5_tells_106 : decode cX5_tells 106 = .ok (.dup, 1) := dk_89 (dk_at dksX5_tells_4 15 rfl rfl)
theorem dX5_tells_107 : decode cX5_tells 107 = .ok (.getfield 47, 3) := dk_180 0 47 (dk_at dksX5_tells_4 16 rfl rfl)
theorem dX5_tells_110 : decode cX5_tells 110 = .ok (.iconst 1, 1) := dk_4 (dk_at dksX5_tells_4 19 rfl rfl)
theorem dX5_tells_111 : decode cX5_tells 111 = .ok (.iadd, 1) := dk_96 (dk_at dksX5_tells_4 20 rfl rfl)
theorem dX5_tells_112 : decode cX5_tells 112 = .ok (.putfield 47, 3) := dk_181 0 47 (dk_at dksX5_tells_4 21 rfl rfl)
theorem dX5_tells_115 : decode cX5_tells 115 = .ok (.return_, 1) := dk_177 (dk_at dksX5_tells_5 0 rfl rfl)
abbrev cX5_barge : ByteArray := prog_15_method_19_code
def yX5_barge : MethodName := ⟨RX5, "barge", "()I"⟩
def dkwX5_barge_2 : List UInt8 := [167, 255, 221, 27, 172]
abbrev dktX5_barge_2 : List UInt8 := dkwX5_barge_2 ++ []
def dkwX5_barge_1 : List UInt8 := [180, 0, 15, 28, 46, 42, 180, 0, 15, 28, 4, 100, 46, 100, 184, 0, 153, 96, 60, 132, 2, 1]
abbrev dktX5_barge_1 : List UInt8 := dkwX5_barge_1 ++ dktX5_barge_2
def dkwX5_barge_0 : List UInt8 := [42, 180, 0, 3, 182, 0, 78, 60, 4, 61, 28, 42, 180, 0, 3, 182, 0, 78, 162, 0, 30, 27, 42]
abbrev dktX5_barge_0 : List UInt8 := dkwX5_barge_0 ++ dktX5_barge_1
theorem dksX5_barge_0 : cX5_barge.data.toList.drop 0 = dktX5_barge_0 := by decide +kernel
theorem dksX5_barge_1 : cX5_barge.data.toList.drop 23 = dktX5_barge_1 := dk_seg dksX5_barge_0 23 rfl rfl
theorem dksX5_barge_2 : cX5_barge.data.toList.drop 45 = dktX5_barge_2 := dk_seg dksX5_barge_1 22 rfl rfl
theorem dX5_barge_0 : decode cX5_barge 0 = .ok (.aload_n 0, 1) := dk_42 (dk_at dksX5_barge_0 0 rfl rfl)
theorem dX5_barge_1 : decode cX5_barge 1 = .ok (.getfield 3, 3) := dk_180 0 3 (dk_at dksX5_barge_0 1 rfl rfl)
theorem dX5_barge_4 : decode cX5_barge 4 = .ok (.invokevirtual 78, 3) := dk_182 0 78 (dk_at dksX5_barge_0 4 rfl rfl)
theorem dX5_barge_7 : decode cX5_barge 7 = .ok (.istore_n 1, 1) := dk_60 (dk_at dksX5_barge_0 7 rfl rfl)
theorem dX5_barge_8 : decode cX5_barge 8 = .ok (.iconst 1, 1) := dk_4 (dk_at dksX5_barge_0 8 rfl rfl)
theorem dX5_barge_9 : decode cX5_barge 9 = .ok (.istore_n 2, 1) := dk_61 (dk_at dksX5_barge_0 9 rfl rfl)
theorem dX5_barge_10 : decode cX5_barge 10 = .ok (.iload_n 2, 1) := dk_28 (dk_at dksX5_barge_0 10 rfl rfl)
theorem dX5_barge_11 : decode cX5_barge 11 = .ok (.aload_n 0, 1) := dk_42 (dk_at dksX5_barge_0 11 rfl rfl)
theorem dX5_barge_12 : decode cX5_barge 12 = .ok (.getfield 3, 3) := dk_180 0 3 (dk_at dksX5_barge_0 12 rfl rfl)
theorem dX5_barge_15 : decode cX5_barge 15 = .ok (.invokevirtual 78, 3) := dk_182 0 78 (dk_at dksX5_barge_0 15 rfl rfl)
theorem dX5_barge_18 : decode cX5_barge 18 = .ok (.if_icmp .ge 30, 3) := dk_162 0 30 (dk_at dksX5_barge_0 18 rfl rfl)
theorem dX5_barge_21 : decode cX5_barge 21 = .ok (.iload_n 1, 1) := dk_27 (dk_at dksX5_barge_0 21 rfl rfl)
theorem dX5_barge_22 : decode cX5_barge 22 = .ok (.aload_n 0, 1) := dk_42 (dk_at dksX5_barge_0 22 rfl rfl)
theorem dX5_barge_23 : decode cX5_barge 23 = .ok (.getfield 15, 3) := dk_180 0 15 (dk_at dksX5_barge_1 0 rfl rfl)
theorem dX5_barge_26 : decode cX5_barge 26 = .ok (.iload_n 2, 1) := dk_28 (dk_at dksX5_barge_1 3 rfl rfl)
theorem dX5_barge_27 : decode cX5_barge 27 = .ok (.iaload, 1) := dk_46 (dk_at dksX5_barge_1 4 rfl rfl)
theorem dX5_barge_28 : decode cX5_barge 28 = .ok (.aload_n 0, 1) := dk_42 (dk_at dksX5_barge_1 5 rfl rfl)
theorem dX5_barge_29 : decode cX5_barge 29 = .ok (.getfield 15, 3) := dk_180 0 15 (dk_at dksX5_barge_1 6 rfl rfl)
theorem dX5_barge_32 : decode cX5_barge 32 = .ok (.iload_n 2, 1) := dk_28 (dk_at dksX5_barge_1 9 rfl rfl)
theorem dX5_barge_33 : decode cX5_barge 33 = .ok (.iconst 1, 1) := dk_4 (dk_at dksX5_barge_1 10 rfl rfl)
theorem dX5_barge_34 : decode cX5_barge 34 = .ok (.isub, 1) := dk_100 (dk_at dksX5_barge_1 11 rfl rfl)
theorem dX5_barge_35 : decode cX5_barge 35 = .ok (.iaload, 1) := dk_46 (dk_at dksX5_barge_1 12 rfl rfl)
theorem dX5_barge_36 : decode cX5_barge 36 = .ok (.isub, 1) := dk_100 (dk_at dksX5_barge_1 13 rfl rfl)
theorem dX5_barge_37 : decode cX5_barge 37 = .ok (.invokestatic 153, 3) := dk_184 0 153 (dk_at dksX5_barge_1 14 rfl rfl)
theorem dX5_barge_40 : decode cX5_barge 40 = .ok (.iadd, 1) := dk_96 (dk_at dksX5_barge_1 17 rfl rfl)
theorem dX5_barge_41 : decode cX5_barge 41 = .ok (.istore_n 1, 1) := dk_60 (dk_at dksX5_barge_1 18 rfl rfl)
theorem dX5_barge_42 : decode cX5_barge 42 = .ok (.iinc 2 1, 3) := dk_132 2 1 (dk_at dksX5_barge_1 19 rfl rfl)
theorem dX5_barge_45 : decode cX5_barge 45 = .ok (.goto (-35), 3) := dk_167 255 221 (dk_at dksX5_barge_2 0 rfl rfl)
theorem dX5_barge_48 : decode cX5_barge 48 = .ok (.iload_n 1, 1) := dk_27 (dk_at dksX5_barge_2 3 rfl rfl)
theorem dX5_barge_49 : decode cX5_barge 49 = .ok (.ireturn, 1) := dk_172 (dk_at dksX5_barge_2 4 rfl rfl)
abbrev cX5_half : ByteArray := prog_15_method_20_code
def yX5_half : MethodName := ⟨RX5, "half", "(I)I"⟩
def dkwX5_half_0 : List UInt8 := [42, 27, 182, 0, 84, 42, 27, 182, 0, 88, 96, 5, 108, 172]
abbrev dktX5_half_0 : List UInt8 := dkwX5_half_0 ++ []
theorem dksX5_half_0 : cX5_half.data.toList.drop 0 = dktX5_half_0 := by decide +kernel
theorem dX5_half_0 : decode cX5_half 0 = .ok (.aload_n 0, 1) := dk_42 (dk_at dksX5_half_0 0 rfl rfl)
theorem dX5_half_1 : decode cX5_half 1 = .ok (.iload_n 1, 1) := dk_27 (dk_at dksX5_half_0 1 rfl rfl)
theorem dX5_half_2 : decode cX5_half 2 = .ok (.invokevirtual 84, 3) := dk_182 0 84 (dk_at dksX5_half_0 2 rfl rfl)
theorem dX5_half_5 : decode cX5_half 5 = .ok (.aload_n 0, 1) := dk_42 (dk_at dksX5_half_0 5 rfl rfl)
theorem dX5_half_6 : decode cX5_half 6 = .ok (.iload_n 1, 1) := dk_27 (dk_at dksX5_half_0 6 rfl rfl)
theorem dX5_half_7 : decode cX5_half 7 = .ok (.invokevirtual 88, 3) := dk_182 0 88 (dk_at dksX5_half_0 7 rfl rfl)
theorem dX5_half_10 : decode cX5_half 10 = .ok (.iadd, 1) := dk_96 (dk_at dksX5_half_0 10 rfl rfl)
theorem dX5_half_11 : decode cX5_half 11 = .ok (.iconst 2, 1) := dk_5 (dk_at dksX5_half_0 11 rfl rfl)
theorem dX5_half_12 : decode cX5_half 12 = .ok (.idiv, 1) := dk_108 (dk_at dksX5_half_0 12 rfl rfl)
theorem dX5_half_13 : decode cX5_half 13 = .ok (.ireturn, 1) := dk_172 (dk_at dksX5_half_0 13 rfl rfl)
theorem q185 : (Jvm.Cond.initialized "BentRiver$State") ∈ lw_all := lw_g (lw_at lw_m1 12 rfl) rfl
theorem q261 : (Jvm.Cond.fieldLinkNest "BentRiver$State" (147 : Nat) "BentRiver$Valley" "rows" "I" "BentRiver") ∈ lw_tbl := lw_at lw_m1 88 rfl
theorem q264 : (Jvm.Cond.fieldLinkNest "BentRiver$State" (156 : Nat) "BentRiver$Valley" "reach" "I" "BentRiver") ∈ lw_tbl := lw_at lw_m1 91 rfl
theorem q270 : (Jvm.Cond.fieldLinkNest "BentRiver$State" (54 : Nat) "BentRiver$Valley" "runs" "[I" "BentRiver") ∈ lw_tbl := lw_at lw_m1 97 rfl
theorem q273 : (Jvm.Cond.fieldLinkNest "BentRiver$State" (115 : Nat) "BentRiver$Valley" "soil" "[[I" "BentRiver") ∈ lw_tbl := lw_at lw_m1 100 rfl
theorem q277 : (Jvm.Cond.fieldLinkNest "BentRiver$State" (59 : Nat) "BentRiver$Valley" "willows" "[[I" "BentRiver") ∈ lw_tbl := lw_at lw_m1 104 rfl
theorem q282 : (Jvm.Cond.fieldLinkNest "BentRiver$State" (105 : Nat) "BentRiver$Valley" "eats" "LBentRiver$Value;" "BentRiver") ∈ lw_tbl := lw_at lw_m1 109 rfl
theorem q421 : (Jvm.Cond.fieldLinkNest "BentRiver$State" (122 : Nat) "BentRiver$Moment" "of" "[J" "BentRiver") ∈ lw_tbl := lw_at lw_m2 8 rfl
theorem q428 : (Jvm.Cond.instantiable "BentRiver$State" (11 : Nat)) ∈ lw_all := lw_g (lw_at lw_m2 15 rfl) rfl
theorem q430 : (Jvm.Cond.instanceMethod ({ cls := "BentRiver$State", name := "<init>", desc := "(LBentRiver;)V" } : Jvm.MethodName)) ∈ lw_all := lw_g (lw_at lw_m2 17 rfl) rfl
theorem q431 : (Jvm.Cond.code ({ cls := "BentRiver$State", name := "<init>", desc := "(LBentRiver;)V" } : Jvm.MethodName) prog_15_method_1_code (2 : Nat) (Option.none : Option Jvm.ClassFile.FieldType)) ∈ lw_all := lw_g (lw_at lw_m2 18 rfl) rfl
theorem q432 : (Jvm.Cond.methodLink "BentRiver$State" (9 : Nat) ({ cls := "java/lang/Object", name := "<init>", desc := "()V" } : Jvm.MethodName)) ∈ lw_all := lw_g (lw_at lw_m2 19 rfl) rfl
theorem q433 : (Jvm.Cond.classLink "BentRiver$State" (26 : Nat) "[[I") ∈ lw_all := lw_g (lw_at lw_m2 20 rfl) rfl
theorem q434 : (Jvm.Cond.fieldLink "BentRiver$State" (40 : Nat) "BentRiver$State" "season" "I") ∈ lw_all := lw_g (lw_at lw_m2 21 rfl) rfl
theorem q436 : (Jvm.Cond.fieldLink "BentRiver$State" (44 : Nat) "BentRiver$State" "fund" "I") ∈ lw_all := lw_g (lw_at lw_m2 23 rfl) rfl
theorem q438 : (Jvm.Cond.fieldLink "BentRiver$State" (47 : Nat) "BentRiver$State" "keeps" "I") ∈ lw_all := lw_g (lw_at lw_m2 25 rfl) rfl
theorem q440 : (Jvm.Cond.fieldLink "BentRiver$State" (15 : Nat) "BentRiver$State" "row" "[I") ∈ lw_all := lw_g (lw_at lw_m2 27 rfl) rfl
theorem q442 : (Jvm.Cond.fieldLink "BentRiver$State" (19 : Nat) "BentRiver$State" "purse" "[I") ∈ lw_all := lw_g (lw_at lw_m2 29 rfl) rfl
theorem q444 : (Jvm.Cond.fieldLink "BentRiver$State" (22 : Nat) "BentRiver$State" "offers" "[Z") ∈ lw_all := lw_g (lw_at lw_m2 31 rfl) rfl
theorem q446 : (Jvm.Cond.fieldLink "BentRiver$State" (28 : Nat) "BentRiver$State" "willows" "[[I") ∈ lw_all := lw_g (lw_at lw_m2 33 rfl) rfl
theorem q448 : (Jvm.Cond.fieldLink "BentRiver$State" (31 : Nat) "BentRiver$State" "ever" "[[I") ∈ lw_all := lw_g (lw_at lw_m2 35 rfl) rfl
theorem q450 : (Jvm.Cond.fieldLink "BentRiver$State" (34 : Nat) "BentRiver$State" "rows" "[[I") ∈ lw_all := lw_g (lw_at lw_m2 37 rfl) rfl
theorem q452 : (Jvm.Cond.fieldLink "BentRiver$State" (37 : Nat) "BentRiver$State" "has" "[I") ∈ lw_all := lw_g (lw_at lw_m2 39 rfl) rfl
theorem q454 : (Jvm.Cond.fieldLink "BentRiver$State" (3 : Nat) "BentRiver$State" "this$0" "LBentRiver;") ∈ lw_all := lw_g (lw_at lw_m2 41 rfl) rfl
theorem q455 : (Jvm.Cond.lays "BentRiver$State" "BentRiver$State" "season" "I") ∈ lw_all := lw_g (lw_at lw_m2 42 rfl) rfl
theorem q456 : (Jvm.Cond.soleField "BentRiver$State" "season") ∈ lw_all := lw_g (lw_at lw_m2 43 rfl) rfl
theorem q457 : (Jvm.Cond.lays "BentRiver$State" "BentRiver$State" "fund" "I") ∈ lw_all := lw_g (lw_at lw_m2 44 rfl) rfl
theorem q458 : (Jvm.Cond.soleField "BentRiver$State" "fund") ∈ lw_all := lw_g (lw_at lw_m2 45 rfl) rfl
theorem q459 : (Jvm.Cond.lays "BentRiver$State" "BentRiver$State" "keeps" "I") ∈ lw_all := lw_g (lw_at lw_m2 46 rfl) rfl
theorem q460 : (Jvm.Cond.soleField "BentRiver$State" "keeps") ∈ lw_all := lw_g (lw_at lw_m2 47 rfl) rfl
theorem q461 : (Jvm.Cond.laysFinal "BentRiver$State" "BentRiver$State" "row" "[I") ∈ lw_all := lw_g (lw_at lw_m2 48 rfl) rfl
theorem q462 : (Jvm.Cond.soleField "BentRiver$State" "row") ∈ lw_all := lw_g (lw_at lw_m2 49 rfl) rfl
theorem q463 : (Jvm.Cond.laysFinal "BentRiver$State" "BentRiver$State" "purse" "[I") ∈ lw_all := lw_g (lw_at lw_m2 50 rfl) rfl
theorem q464 : (Jvm.Cond.soleField "BentRiver$State" "purse") ∈ lw_all := lw_g (lw_at lw_m2 51 rfl) rfl
theorem q465 : (Jvm.Cond.laysFinal "BentRiver$State" "BentRiver$State" "offers" "[Z") ∈ lw_all := lw_g (lw_at lw_m2 52 rfl) rfl
theorem q466 : (Jvm.Cond.soleField "BentRiver$State" "offers") ∈ lw_all := lw_g (lw_at lw_m2 53 rfl) rfl
theorem q467 : (Jvm.Cond.laysFinal "BentRiver$State" "BentRiver$State" "willows" "[[I") ∈ lw_all := lw_g (lw_at lw_m2 54 rfl) rfl
theorem q468 : (Jvm.Cond.soleField "BentRiver$State" "willows") ∈ lw_all := lw_g (lw_at lw_m2 55 rfl) rfl
theorem q469 : (Jvm.Cond.laysFinal "BentRiver$State" "BentRiver$State" "ever" "[[I") ∈ lw_all := lw_g (lw_at lw_m2 56 rfl) rfl
theorem q470 : (Jvm.Cond.soleField "BentRiver$State" "ever") ∈ lw_all := lw_g (lw_at lw_m2 57 rfl) rfl
theorem q471 : (Jvm.Cond.laysFinal "BentRiver$State" "BentRiver$State" "rows" "[[I") ∈ lw_all := lw_g (lw_at lw_m2 58 rfl) rfl
theorem q472 : (Jvm.Cond.soleField "BentRiver$State" "rows") ∈ lw_all := lw_g (lw_at lw_m2 59 rfl) rfl
theorem q473 : (Jvm.Cond.laysFinal "BentRiver$State" "BentRiver$State" "has" "[I") ∈ lw_all := lw_g (lw_at lw_m2 60 rfl) rfl
theorem q474 : (Jvm.Cond.soleField "BentRiver$State" "has") ∈ lw_all := lw_g (lw_at lw_m2 61 rfl) rfl
theorem q475 : (Jvm.Cond.laysFinal "BentRiver$State" "BentRiver$State" "this$0" "LBentRiver;") ∈ lw_all := lw_g (lw_at lw_m2 62 rfl) rfl
theorem q476 : (Jvm.Cond.soleField "BentRiver$State" "this$0") ∈ lw_all := lw_g (lw_at lw_m2 63 rfl) rfl
theorem q477 : (Jvm.Cond.superclass "BentRiver$State" "java/lang/Object") ∈ lw_all := lw_g (lw_at lw_m2 64 rfl) rfl
theorem q483 : (Jvm.Cond.fieldLinkNest "BentRiver$State" (50 : Nat) "BentRiver" "valley" "LBentRiver$Valley;" "BentRiver") ∈ lw_tbl := lw_at lw_m2 70 rfl
theorem q492 : (Jvm.Cond.fieldLinkNest "BentRiver$State" (118 : Nat) "BentRiver" "moment" "LBentRiver$Moment;" "BentRiver") ∈ lw_tbl := lw_at lw_m2 79 rfl
theorem q872 : (Jvm.Cond.fieldLinkNest "BentRiver$State" (141 : Nat) "BentRiver$Lord" "from" "I" "BentRiver") ∈ lw_tbl := lw_at lw_m3 219 rfl
theorem q875 : (Jvm.Cond.fieldLinkNest "BentRiver$State" (144 : Nat) "BentRiver$Lord" "to" "I" "BentRiver") ∈ lw_tbl := lw_at lw_m3 222 rfl
theorem q878 : (Jvm.Cond.fieldLinkNest "BentRiver$State" (95 : Nat) "BentRiver$Lord" "pays" "I" "BentRiver") ∈ lw_tbl := lw_at lw_m3 225 rfl
theorem q881 : (Jvm.Cond.fieldLinkNest "BentRiver$State" (166 : Nat) "BentRiver$Lord" "joy" "I" "BentRiver") ∈ lw_tbl := lw_at lw_m3 228 rfl
theorem q884 : (Jvm.Cond.fieldLinkNest "BentRiver$State" (68 : Nat) "BentRiver$Lord" "purse" "I" "BentRiver") ∈ lw_tbl := lw_at lw_m3 231 rfl
theorem q951 : (Jvm.Cond.selects "BentRiver$State" ({ cls := "java/lang/Object", name := "getClass", desc := "()Ljava/lang/Class;" } : Jvm.MethodName) ({ cls := "java/lang/Object", name := "getClass", desc := "()Ljava/lang/Class;" } : Jvm.MethodName)) ∈ lw_all := lw_g (lw_at lw_m4 58 rfl) rfl
theorem q1244 : (Jvm.Cond.instanceMethod ({ cls := "BentRiver$State", name := "begins", desc := "()V" } : Jvm.MethodName)) ∈ lw_all := lw_g (lw_at lw_m5 111 rfl) rfl
theorem q1245 : (Jvm.Cond.selects "BentRiver$State" ({ cls := "BentRiver$State", name := "begins", desc := "()V" } : Jvm.MethodName) ({ cls := "BentRiver$State", name := "begins", desc := "()V" } : Jvm.MethodName)) ∈ lw_all := lw_g (lw_at lw_m5 112 rfl) rfl
theorem q1246 : (Jvm.Cond.code ({ cls := "BentRiver$State", name := "begins", desc := "()V" } : Jvm.MethodName) prog_15_method_2_code (3 : Nat) (Option.none : Option Jvm.ClassFile.FieldType)) ∈ lw_all := lw_g (lw_at lw_m5 113 rfl) rfl
theorem q1247 : (Jvm.Cond.methodLinkNest "BentRiver$State" (60 : Nat) ({ cls := "BentRiver", name := "lords", desc := "()I" } : Jvm.MethodName) "BentRiver") ∈ lw_tbl := lw_at lw_m5 114 rfl
theorem q1253 : (Jvm.Cond.methodLinkNest "BentRiver$State" (64 : Nat) ({ cls := "BentRiver", name := "lordOf", desc := "(I)LBentRiver$Lord;" } : Jvm.MethodName) "BentRiver") ∈ lw_tbl := lw_at lw_m5 120 rfl
theorem q1274 : (Jvm.Cond.instanceMethod ({ cls := "BentRiver$State", name := "bends", desc := "()I" } : Jvm.MethodName)) ∈ lw_all := lw_g (lw_at lw_m5 141 rfl) rfl
theorem q1275 : (Jvm.Cond.selects "BentRiver$State" ({ cls := "BentRiver$State", name := "bends", desc := "()I" } : Jvm.MethodName) ({ cls := "BentRiver$State", name := "bends", desc := "()I" } : Jvm.MethodName)) ∈ lw_all := lw_g (lw_at lw_m5 142 rfl) rfl
theorem q1276 : (Jvm.Cond.code ({ cls := "BentRiver$State", name := "bends", desc := "()I" } : Jvm.MethodName) prog_15_method_11_code (3 : Nat) (Option.some Jvm.ClassFile.FieldType.int)) ∈ lw_all := lw_g (lw_at lw_m5 143 rfl) rfl
theorem q1277 : (Jvm.Cond.methodLinkNest "BentRiver$State" (78 : Nat) ({ cls := "BentRiver", name := "columns", desc := "()I" } : Jvm.MethodName) "BentRiver") ∈ lw_tbl := lw_at lw_m5 144 rfl
theorem q1278 : (Jvm.Cond.methodLink "BentRiver$State" (138 : Nat) ({ cls := "BentRiver$State", name := "isBend", desc := "(I)Z" } : Jvm.MethodName)) ∈ lw_all := lw_g (lw_at lw_m5 145 rfl) rfl
theorem q1279 : (Jvm.Cond.instanceMethod ({ cls := "BentRiver$State", name := "isBend", desc := "(I)Z" } : Jvm.MethodName)) ∈ lw_all := lw_g (lw_at lw_m5 146 rfl) rfl
theorem q1280 : (Jvm.Cond.selects "BentRiver$State" ({ cls := "BentRiver$State", name := "isBend", desc := "(I)Z" } : Jvm.MethodName) ({ cls := "BentRiver$State", name := "isBend", desc := "(I)Z" } : Jvm.MethodName)) ∈ lw_all := lw_g (lw_at lw_m5 147 rfl) rfl
theorem q1281 : (Jvm.Cond.code ({ cls := "BentRiver$State", name := "isBend", desc := "(I)Z" } : Jvm.MethodName) prog_15_method_10_code (2 : Nat) (Option.some Jvm.ClassFile.FieldType.boolean)) ∈ lw_all := lw_g (lw_at lw_m5 148 rfl) rfl
theorem q1282 : (Jvm.Cond.methodLink "BentRiver$State" (84 : Nat) ({ cls := "BentRiver$State", name := "before", desc := "(I)I" } : Jvm.MethodName)) ∈ lw_all := lw_g (lw_at lw_m5 149 rfl) rfl
theorem q1283 : (Jvm.Cond.instanceMethod ({ cls := "BentRiver$State", name := "before", desc := "(I)I" } : Jvm.MethodName)) ∈ lw_all := lw_g (lw_at lw_m5 150 rfl) rfl
theorem q1284 : (Jvm.Cond.selects "BentRiver$State" ({ cls := "BentRiver$State", name := "before", desc := "(I)I" } : Jvm.MethodName) ({ cls := "BentRiver$State", name := "before", desc := "(I)I" } : Jvm.MethodName)) ∈ lw_all := lw_g (lw_at lw_m5 151 rfl) rfl
theorem q1285 : (Jvm.Cond.code ({ cls := "BentRiver$State", name := "before", desc := "(I)I" } : Jvm.MethodName) prog_15_method_4_code (2 : Nat) (Option.some Jvm.ClassFile.FieldType.int)) ∈ lw_all := lw_g (lw_at lw_m5 152 rfl) rfl
theorem q1286 : (Jvm.Cond.methodLink "BentRiver$State" (72 : Nat) ({ cls := "java/lang/Math", name := "max", desc := "(II)I" } : Jvm.MethodName)) ∈ lw_all := lw_g (lw_at lw_m5 153 rfl) rfl
theorem q1287 : (Jvm.Cond.methodLink "BentRiver$State" (88 : Nat) ({ cls := "BentRiver$State", name := "behind", desc := "(I)I" } : Jvm.MethodName)) ∈ lw_all := lw_g (lw_at lw_m5 154 rfl) rfl
theorem q1288 : (Jvm.Cond.instanceMethod ({ cls := "BentRiver$State", name := "behind", desc := "(I)I" } : Jvm.MethodName)) ∈ lw_all := lw_g (lw_at lw_m5 155 rfl) rfl
theorem q1289 : (Jvm.Cond.selects "BentRiver$State" ({ cls := "BentRiver$State", name := "behind", desc := "(I)I" } : Jvm.MethodName) ({ cls := "BentRiver$State", name := "behind", desc := "(I)I" } : Jvm.MethodName)) ∈ lw_all := lw_g (lw_at lw_m5 156 rfl) rfl
theorem q1290 : (Jvm.Cond.code ({ cls := "BentRiver$State", name := "behind", desc := "(I)I" } : Jvm.MethodName) prog_15_method_5_code (2 : Nat) (Option.some Jvm.ClassFile.FieldType.int)) ∈ lw_all := lw_g (lw_at lw_m5 157 rfl) rfl
theorem q1291 : (Jvm.Cond.methodLink "BentRiver$State" (81 : Nat) ({ cls := "java/lang/Math", name := "min", desc := "(II)I" } : Jvm.MethodName)) ∈ lw_all := lw_g (lw_at lw_m5 158 rfl) rfl
theorem q1292 : (Jvm.Cond.methodLinkNest "BentRiver$State" (134 : Nat) ({ cls := "BentRiver", name := "isBendBy", desc := "(IIIII)Z" } : Jvm.MethodName) "BentRiver") ∈ lw_tbl := lw_at lw_m5 159 rfl
theorem q1361 : (Jvm.Cond.instanceMethod ({ cls := "BentRiver$State", name := "turn", desc := "(I)I" } : Jvm.MethodName)) ∈ lw_all := lw_g (lw_at lw_m5 228 rfl) rfl
theorem q1362 : (Jvm.Cond.selects "BentRiver$State" ({ cls := "BentRiver$State", name := "turn", desc := "(I)I" } : Jvm.MethodName) ({ cls := "BentRiver$State", name := "turn", desc := "(I)I" } : Jvm.MethodName)) ∈ lw_all := lw_g (lw_at lw_m5 229 rfl) rfl
theorem q1363 : (Jvm.Cond.code ({ cls := "BentRiver$State", name := "turn", desc := "(I)I" } : Jvm.MethodName) prog_15_method_6_code (2 : Nat) (Option.some Jvm.ClassFile.FieldType.int)) ∈ lw_all := lw_g (lw_at lw_m5 230 rfl) rfl
theorem q1364 : (Jvm.Cond.methodLinkNest "BentRiver$State" (91 : Nat) ({ cls := "BentRiver", name := "turnOf", desc := "(IIII)I" } : Jvm.MethodName) "BentRiver") ∈ lw_tbl := lw_at lw_m5 231 rfl
theorem q1426 : (Jvm.Cond.instanceMethod ({ cls := "BentRiver$State", name := "pay", desc := "(I)I" } : Jvm.MethodName)) ∈ lw_all := lw_g (lw_at lw_m6 53 rfl) rfl
theorem q1427 : (Jvm.Cond.selects "BentRiver$State" ({ cls := "BentRiver$State", name := "pay", desc := "(I)I" } : Jvm.MethodName) ({ cls := "BentRiver$State", name := "pay", desc := "(I)I" } : Jvm.MethodName)) ∈ lw_all := lw_g (lw_at lw_m6 54 rfl) rfl
theorem q1428 : (Jvm.Cond.code ({ cls := "BentRiver$State", name := "pay", desc := "(I)I" } : Jvm.MethodName) prog_15_method_8_code (4 : Nat) (Option.some Jvm.ClassFile.FieldType.int)) ∈ lw_all := lw_g (lw_at lw_m6 55 rfl) rfl
theorem q1429 : (Jvm.Cond.methodLink "BentRiver$State" (98 : Nat) ({ cls := "BentRiver$Lord", name := "isOf", desc := "(I)Z" } : Jvm.MethodName)) ∈ lw_all := lw_g (lw_at lw_m6 56 rfl) rfl
theorem q1434 : (Jvm.Cond.methodLink "BentRiver$State" (102 : Nat) ({ cls := "BentRiver$State", name := "offer", desc := "(I)I" } : Jvm.MethodName)) ∈ lw_all := lw_g (lw_at lw_m6 61 rfl) rfl
theorem q1435 : (Jvm.Cond.instanceMethod ({ cls := "BentRiver$State", name := "offer", desc := "(I)I" } : Jvm.MethodName)) ∈ lw_all := lw_g (lw_at lw_m6 62 rfl) rfl
theorem q1436 : (Jvm.Cond.selects "BentRiver$State" ({ cls := "BentRiver$State", name := "offer", desc := "(I)I" } : Jvm.MethodName) ({ cls := "BentRiver$State", name := "offer", desc := "(I)I" } : Jvm.MethodName)) ∈ lw_all := lw_g (lw_at lw_m6 63 rfl) rfl
theorem q1437 : (Jvm.Cond.code ({ cls := "BentRiver$State", name := "offer", desc := "(I)I" } : Jvm.MethodName) prog_15_method_7_code (2 : Nat) (Option.some Jvm.ClassFile.FieldType.int)) ∈ lw_all := lw_g (lw_at lw_m6 64 rfl) rfl
theorem q1451 : (Jvm.Cond.instanceMethod ({ cls := "BentRiver$State", name := "eats", desc := "(II)J" } : Jvm.MethodName)) ∈ lw_all := lw_g (lw_at lw_m6 78 rfl) rfl
theorem q1452 : (Jvm.Cond.selects "BentRiver$State" ({ cls := "BentRiver$State", name := "eats", desc := "(II)J" } : Jvm.MethodName) ({ cls := "BentRiver$State", name := "eats", desc := "(II)J" } : Jvm.MethodName)) ∈ lw_all := lw_g (lw_at lw_m6 79 rfl) rfl
theorem q1453 : (Jvm.Cond.code ({ cls := "BentRiver$State", name := "eats", desc := "(II)J" } : Jvm.MethodName) prog_15_method_9_code (3 : Nat) (Option.some Jvm.ClassFile.FieldType.long)) ∈ lw_all := lw_g (lw_at lw_m6 80 rfl) rfl
theorem q1454 : (Jvm.Cond.methodLink "BentRiver$State" (109 : Nat) ({ cls := "BentRiver$State", name := "pay", desc := "(I)I" } : Jvm.MethodName)) ∈ lw_all := lw_g (lw_at lw_m6 81 rfl) rfl
theorem q1455 : (Jvm.Cond.methodLink "BentRiver$State" (112 : Nat) ({ cls := "BentRiver$State", name := "turn", desc := "(I)I" } : Jvm.MethodName)) ∈ lw_all := lw_g (lw_at lw_m6 82 rfl) rfl
theorem q1456 : (Jvm.Cond.methodLink "BentRiver$State" (128 : Nat) ({ cls := "BentRiver$Value", name := "at", desc := "(LBentRiver$Moment;)J" } : Jvm.MethodName)) ∈ lw_all := lw_g (lw_at lw_m6 83 rfl) rfl
theorem q1463 : (Jvm.Cond.instanceMethod ({ cls := "BentRiver$State", name := "bendsOf", desc := "(I)I" } : Jvm.MethodName)) ∈ lw_all := lw_g (lw_at lw_m6 90 rfl) rfl
theorem q1464 : (Jvm.Cond.selects "BentRiver$State" ({ cls := "BentRiver$State", name := "bendsOf", desc := "(I)I" } : Jvm.MethodName) ({ cls := "BentRiver$State", name := "bendsOf", desc := "(I)I" } : Jvm.MethodName)) ∈ lw_all := lw_g (lw_at lw_m6 91 rfl) rfl
theorem q1465 : (Jvm.Cond.code ({ cls := "BentRiver$State", name := "bendsOf", desc := "(I)I" } : Jvm.MethodName) prog_15_method_12_code (4 : Nat) (Option.some Jvm.ClassFile.FieldType.int)) ∈ lw_all := lw_g (lw_at lw_m6 92 rfl) rfl
theorem q1483 : (Jvm.Cond.instanceMethod ({ cls := "BentRiver$State", name := "copy", desc := "(LBentRiver$State;)LBentRiver$State;" } : Jvm.MethodName)) ∈ lw_all := lw_g (lw_at lw_m6 110 rfl) rfl
theorem q1484 : (Jvm.Cond.selects "BentRiver$State" ({ cls := "BentRiver$State", name := "copy", desc := "(LBentRiver$State;)LBentRiver$State;" } : Jvm.MethodName) ({ cls := "BentRiver$State", name := "copy", desc := "(LBentRiver$State;)LBentRiver$State;" } : Jvm.MethodName)) ∈ lw_all := lw_g (lw_at lw_m6 111 rfl) rfl
theorem q1485 : (Jvm.Cond.code ({ cls := "BentRiver$State", name := "copy", desc := "(LBentRiver$State;)LBentRiver$State;" } : Jvm.MethodName) prog_15_method_3_code (4 : Nat) (Option.some (Jvm.ClassFile.FieldType.object "BentRiver$State"))) ∈ lw_all := lw_g (lw_at lw_m6 112 rfl) rfl
theorem q1487 : (Jvm.Cond.instanceMethod ({ cls := "BentRiver$State", name := "seasons", desc := "(I)LBentRiver$State;" } : Jvm.MethodName)) ∈ lw_all := lw_g (lw_at lw_m6 114 rfl) rfl
theorem q1488 : (Jvm.Cond.selects "BentRiver$State" ({ cls := "BentRiver$State", name := "seasons", desc := "(I)LBentRiver$State;" } : Jvm.MethodName) ({ cls := "BentRiver$State", name := "seasons", desc := "(I)LBentRiver$State;" } : Jvm.MethodName)) ∈ lw_all := lw_g (lw_at lw_m6 115 rfl) rfl
theorem q1489 : (Jvm.Cond.code ({ cls := "BentRiver$State", name := "seasons", desc := "(I)LBentRiver$State;" } : Jvm.MethodName) prog_15_method_18_code (3 : Nat) (Option.some (Jvm.ClassFile.FieldType.object "BentRiver$State"))) ∈ lw_all := lw_g (lw_at lw_m6 116 rfl) rfl
theorem q1490 : (Jvm.Cond.methodLink "BentRiver$State" (183 : Nat) ({ cls := "BentRiver$State", name := "passes", desc := "()I" } : Jvm.MethodName)) ∈ lw_all := lw_g (lw_at lw_m6 117 rfl) rfl
theorem q1491 : (Jvm.Cond.instanceMethod ({ cls := "BentRiver$State", name := "passes", desc := "()I" } : Jvm.MethodName)) ∈ lw_all := lw_g (lw_at lw_m6 118 rfl) rfl
theorem q1492 : (Jvm.Cond.selects "BentRiver$State" ({ cls := "BentRiver$State", name := "passes", desc := "()I" } : Jvm.MethodName) ({ cls := "BentRiver$State", name := "passes", desc := "()I" } : Jvm.MethodName)) ∈ lw_all := lw_g (lw_at lw_m6 119 rfl) rfl
theorem q1493 : (Jvm.Cond.code ({ cls := "BentRiver$State", name := "passes", desc := "()I" } : Jvm.MethodName) prog_15_method_17_code (3 : Nat) (Option.some Jvm.ClassFile.FieldType.int)) ∈ lw_all := lw_g (lw_at lw_m6 120 rfl) rfl
theorem q1494 : (Jvm.Cond.methodLink "BentRiver$State" (169 : Nat) ({ cls := "BentRiver$State", name := "moves", desc := "(I)V" } : Jvm.MethodName)) ∈ lw_all := lw_g (lw_at lw_m6 121 rfl) rfl
theorem q1495 : (Jvm.Cond.privateMethod ({ cls := "BentRiver$State", name := "moves", desc := "(I)V" } : Jvm.MethodName)) ∈ lw_tbl := lw_at lw_m6 122 rfl
theorem q1496 : (Jvm.Cond.instanceMethod ({ cls := "BentRiver$State", name := "moves", desc := "(I)V" } : Jvm.MethodName)) ∈ lw_all := lw_g (lw_at lw_m6 123 rfl) rfl
theorem q1497 : (Jvm.Cond.code ({ cls := "BentRiver$State", name := "moves", desc := "(I)V" } : Jvm.MethodName) prog_15_method_14_code (6 : Nat) (Option.none : Option Jvm.ClassFile.FieldType)) ∈ lw_all := lw_g (lw_at lw_m6 124 rfl) rfl
theorem q1498 : (Jvm.Cond.methodLink "BentRiver$State" (159 : Nat) ({ cls := "BentRiver$State", name := "canGo", desc := "(II)Z" } : Jvm.MethodName)) ∈ lw_all := lw_g (lw_at lw_m6 125 rfl) rfl
theorem q1499 : (Jvm.Cond.privateMethod ({ cls := "BentRiver$State", name := "canGo", desc := "(II)Z" } : Jvm.MethodName)) ∈ lw_tbl := lw_at lw_m6 126 rfl
theorem q1500 : (Jvm.Cond.instanceMethod ({ cls := "BentRiver$State", name := "canGo", desc := "(II)Z" } : Jvm.MethodName)) ∈ lw_all := lw_g (lw_at lw_m6 127 rfl) rfl
theorem q1501 : (Jvm.Cond.code ({ cls := "BentRiver$State", name := "canGo", desc := "(II)Z" } : Jvm.MethodName) prog_15_method_13_code (3 : Nat) (Option.some Jvm.ClassFile.FieldType.boolean)) ∈ lw_all := lw_g (lw_at lw_m6 128 rfl) rfl
theorem q1502 : (Jvm.Cond.methodLinkNest "BentRiver$State" (149 : Nat) ({ cls := "BentRiver", name := "is", desc := "(III)Z" } : Jvm.MethodName) "BentRiver") ∈ lw_tbl := lw_at lw_m6 129 rfl
theorem q1503 : (Jvm.Cond.methodLink "BentRiver$State" (153 : Nat) ({ cls := "java/lang/Math", name := "abs", desc := "(I)I" } : Jvm.MethodName)) ∈ lw_all := lw_g (lw_at lw_m6 130 rfl) rfl
theorem q1504 : (Jvm.Cond.methodLink "BentRiver$State" (163 : Nat) ({ cls := "BentRiver$State", name := "eats", desc := "(II)J" } : Jvm.MethodName)) ∈ lw_all := lw_g (lw_at lw_m6 131 rfl) rfl
theorem q1505 : (Jvm.Cond.methodLink "BentRiver$State" (173 : Nat) ({ cls := "BentRiver$State", name := "pays", desc := "(I)I" } : Jvm.MethodName)) ∈ lw_all := lw_g (lw_at lw_m6 132 rfl) rfl
theorem q1506 : (Jvm.Cond.privateMethod ({ cls := "BentRiver$State", name := "pays", desc := "(I)I" } : Jvm.MethodName)) ∈ lw_tbl := lw_at lw_m6 133 rfl
theorem q1507 : (Jvm.Cond.instanceMethod ({ cls := "BentRiver$State", name := "pays", desc := "(I)I" } : Jvm.MethodName)) ∈ lw_all := lw_g (lw_at lw_m6 134 rfl) rfl
theorem q1508 : (Jvm.Cond.code ({ cls := "BentRiver$State", name := "pays", desc := "(I)I" } : Jvm.MethodName) prog_15_method_16_code (5 : Nat) (Option.some Jvm.ClassFile.FieldType.int)) ∈ lw_all := lw_g (lw_at lw_m6 135 rfl) rfl
theorem q1509 : (Jvm.Cond.constant "BentRiver$State" (175 : Nat) (999999 : Int32)) ∈ lw_all := lw_g (lw_at lw_m6 136 rfl) rfl
theorem q1510 : (Jvm.Cond.methodLink "BentRiver$State" (176 : Nat) ({ cls := "BentRiver$State", name := "bends", desc := "()I" } : Jvm.MethodName)) ∈ lw_all := lw_g (lw_at lw_m6 137 rfl) rfl
theorem q1511 : (Jvm.Cond.methodLink "BentRiver$State" (179 : Nat) ({ cls := "BentRiver$State", name := "tells", desc := "(II)V" } : Jvm.MethodName)) ∈ lw_all := lw_g (lw_at lw_m6 138 rfl) rfl
theorem q1512 : (Jvm.Cond.privateMethod ({ cls := "BentRiver$State", name := "tells", desc := "(II)V" } : Jvm.MethodName)) ∈ lw_tbl := lw_at lw_m6 139 rfl
theorem q1513 : (Jvm.Cond.instanceMethod ({ cls := "BentRiver$State", name := "tells", desc := "(II)V" } : Jvm.MethodName)) ∈ lw_all := lw_g (lw_at lw_m6 140 rfl) rfl
theorem q1514 : (Jvm.Cond.code ({ cls := "BentRiver$State", name := "tells", desc := "(II)V" } : Jvm.MethodName) prog_15_method_15_code (5 : Nat) (Option.none : Option Jvm.ClassFile.FieldType)) ∈ lw_all := lw_g (lw_at lw_m6 141 rfl) rfl
theorem q1564 : (Jvm.Cond.instanceMethod ({ cls := "BentRiver$State", name := "barge", desc := "()I" } : Jvm.MethodName)) ∈ lw_all := lw_g (lw_at lw_m6 191 rfl) rfl
theorem q1565 : (Jvm.Cond.selects "BentRiver$State" ({ cls := "BentRiver$State", name := "barge", desc := "()I" } : Jvm.MethodName) ({ cls := "BentRiver$State", name := "barge", desc := "()I" } : Jvm.MethodName)) ∈ lw_all := lw_g (lw_at lw_m6 192 rfl) rfl
theorem q1566 : (Jvm.Cond.code ({ cls := "BentRiver$State", name := "barge", desc := "()I" } : Jvm.MethodName) prog_15_method_19_code (3 : Nat) (Option.some Jvm.ClassFile.FieldType.int)) ∈ lw_all := lw_g (lw_at lw_m6 193 rfl) rfl
theorem q1572 : (Jvm.Cond.instanceMethod ({ cls := "BentRiver$State", name := "half", desc := "(I)I" } : Jvm.MethodName)) ∈ lw_all := lw_g (lw_at lw_m6 199 rfl) rfl
theorem q1573 : (Jvm.Cond.selects "BentRiver$State" ({ cls := "BentRiver$State", name := "half", desc := "(I)I" } : Jvm.MethodName) ({ cls := "BentRiver$State", name := "half", desc := "(I)I" } : Jvm.MethodName)) ∈ lw_all := lw_g (lw_at lw_m6 200 rfl) rfl
theorem q1574 : (Jvm.Cond.code ({ cls := "BentRiver$State", name := "half", desc := "(I)I" } : Jvm.MethodName) prog_15_method_20_code (2 : Nat) (Option.some Jvm.ClassFile.FieldType.int)) ∈ lw_all := lw_g (lw_at lw_m6 201 rfl) rfl
theorem q2763 : (Jvm.Cond.castable "BentRiver$State" "java/lang/Object") ∈ lw_tbl := lw_at lw_m11 190 rfl
theorem in_X5 : ∀ w ∈ wsX50, w ∈ lw_all := lw_in wsX50 [455, 457, 459, 461, 463, 465, 467, 469, 471, 473, 475] (by decide +kernel) (by decide +kernel)
/-! BentRiver$Lord -/
set_option maxRecDepth 100000
def RX7 : String := "BentRiver$Lord"
def TX7 : u_T := fun k => match k with
  | 0 => ("BentRiver$Lord", "name", "Ljava/lang/String;", true)
  | 1 => ("BentRiver$Lord", "from", "I", true)
  | 2 => ("BentRiver$Lord", "to", "I", true)
  | 3 => ("BentRiver$Lord", "pays", "I", true)
  | 4 => ("BentRiver$Lord", "joy", "I", true)
  | _ => ("BentRiver$Lord", "purse", "I", true)
def tyX7 : Nat → FieldType := fun k => match k with
  | 0 => .object "java/lang/String"
  | 1 => .int
  | 2 => .int
  | 3 => .int
  | 4 => .int
  | _ => .int
abbrev wsX70 : List Cond := u_ws RX7 TX7 6
theorem nmX7 : ∀ a, a < 6 → ∀ b, b < 6 → a ≠ b → (TX7 a).2.1 ≠ (TX7 b).2.1 := by decide +kernel
theorem tyX7_ok : ∀ k, k < 6 → parseFieldDescriptor (TX7 k).2.2.1 = some (tyX7 k) := by decide +kernel
abbrev cX7_init : ByteArray := prog_9_method_1_code
def yX7_init : MethodName := ⟨RX7, "<init>", "(Ljava/lang/String;IIIII)V"⟩
def dkwX7_init_1 : List UInt8 := [181, 0, 20, 42, 21, 5, 181, 0, 23, 42, 21, 6, 181, 0, 26, 177]
abbrev dktX7_init_1 : List UInt8 := dkwX7_init_1 ++ []
def dkwX7_init_0 : List UInt8 := [42, 183, 0, 1, 42, 43, 181, 0, 7, 42, 28, 181, 0, 13, 42, 29, 181, 0, 17, 42, 21, 4]
abbrev dktX7_init_0 : List UInt8 := dkwX7_init_0 ++ dktX7_init_1
theorem dksX7_init_0 : cX7_init.data.toList.drop 0 = dktX7_init_0 := by decide +kernel
theorem dksX7_init_1 : cX7_init.data.toList.drop 22 = dktX7_init_1 := dk_seg dksX7_init_0 22 rfl rfl
theorem dX7_init_0 : decode cX7_init 0 = .ok (.aload_n 0, 1) := dk_42 (dk_at dksX7_init_0 0 rfl rfl)
theorem dX7_init_1 : decode cX7_init 1 = .ok (.invokespecial 1, 3) := dk_183 0 1 (dk_at dksX7_init_0 1 rfl rfl)
theorem dX7_init_4 : decode cX7_init 4 = .ok (.aload_n 0, 1) := dk_42 (dk_at dksX7_init_0 4 rfl rfl)
theorem dX7_init_5 : decode cX7_init 5 = .ok (.aload_n 1, 1) := dk_43 (dk_at dksX7_init_0 5 rfl rfl)
theorem dX7_init_6 : decode cX7_init 6 = .ok (.putfield 7, 3) := dk_181 0 7 (dk_at dksX7_init_0 6 rfl rfl)
theorem dX7_init_9 : decode cX7_init 9 = .ok (.aload_n 0, 1) := dk_42 (dk_at dksX7_init_0 9 rfl rfl)
theorem dX7_init_10 : decode cX7_init 10 = .ok (.iload_n 2, 1) := dk_28 (dk_at dksX7_init_0 10 rfl rfl)
theorem dX7_init_11 : decode cX7_init 11 = .ok (.putfield 13, 3) := dk_181 0 13 (dk_at dksX7_init_0 11 rfl rfl)
theorem dX7_init_14 : decode cX7_init 14 = .ok (.aload_n 0, 1) := dk_42 (dk_at dksX7_init_0 14 rfl rfl)
theorem dX7_init_15 : decode cX7_init 15 = .ok (.iload_n 3, 1) := dk_29 (dk_at dksX7_init_0 15 rfl rfl)
theorem dX7_init_16 : decode cX7_init 16 = .ok (.putfield 17, 3) := dk_181 0 17 (dk_at dksX7_init_0 16 rfl rfl)
theorem dX7_init_19 : decode cX7_init 19 = .ok (.aload_n 0, 1) := dk_42 (dk_at dksX7_init_0 19 rfl rfl)
theorem dX7_init_20 : decode cX7_init 20 = .ok (.iload 4, 2) := dk_21 4 (dk_at dksX7_init_0 20 rfl rfl)
theorem dX7_init_22 : decode cX7_init 22 = .ok (.putfield 20, 3) := dk_181 0 20 (dk_at dksX7_init_1 0 rfl rfl)
theorem dX7_init_25 : decode cX7_init 25 = .ok (.aload_n 0, 1) := dk_42 (dk_at dksX7_init_1 3 rfl rfl)
theorem dX7_init_26 : decode cX7_init 26 = .ok (.iload 5, 2) := dk_21 5 (dk_at dksX7_init_1 4 rfl rfl)
theorem dX7_init_28 : decode cX7_init 28 = .ok (.putfield 23, 3) := dk_181 0 23 (dk_at dksX7_init_1 6 rfl rfl)
theorem dX7_init_31 : decode cX7_init 31 = .ok (.aload_n 0, 1) := dk_42 (dk_at dksX7_init_1 9 rfl rfl)
theorem dX7_init_32 : decode cX7_init 32 = .ok (.iload 6, 2) := dk_21 6 (dk_at dksX7_init_1 10 rfl rfl)
theorem dX7_init_34 : decode cX7_init 34 = .ok (.putfield 26, 3) := dk_181 0 26 (dk_at dksX7_init_1 12 rfl rfl)
theorem dX7_init_37 : decode cX7_init 37 = .ok (.return_, 1) := dk_177 (dk_at dksX7_init_1 15 rfl rfl)
abbrev cX7_letter : ByteArray := prog_9_method_2_code
def yX7_letter : MethodName := ⟨RX7, "letter", "(I)I"⟩
def dkwX7_letter_1 : List UInt8 := [167, 0, 4, 3, 172]
abbrev dktX7_letter_1 : List UInt8 := dkwX7_letter_1 ++ []
def dkwX7_letter_0 : List UInt8 := [27, 42, 180, 0, 7, 182, 0, 29, 162, 0, 19, 42, 180, 0, 7, 27, 182, 0, 35, 16, 97, 100, 4, 96]
abbrev dktX7_letter_0 : List UInt8 := dkwX7_letter_0 ++ dktX7_letter_1
theorem dksX7_letter_0 : cX7_letter.data.toList.drop 0 = dktX7_letter_0 := by decide +kernel
theorem dksX7_letter_1 : cX7_letter.data.toList.drop 24 = dktX7_letter_1 := dk_seg dksX7_letter_0 24 rfl rfl
theorem dX7_letter_0 : decode cX7_letter 0 = .ok (.iload_n 1, 1) := dk_27 (dk_at dksX7_letter_0 0 rfl rfl)
theorem dX7_letter_1 : decode cX7_letter 1 = .ok (.aload_n 0, 1) := dk_42 (dk_at dksX7_letter_0 1 rfl rfl)
theorem dX7_letter_2 : decode cX7_letter 2 = .ok (.getfield 7, 3) := dk_180 0 7 (dk_at dksX7_letter_0 2 rfl rfl)
theorem dX7_letter_5 : decode cX7_letter 5 = .ok (.invokevirtual 29, 3) := dk_182 0 29 (dk_at dksX7_letter_0 5 rfl rfl)
theorem dX7_letter_8 : decode cX7_letter 8 = .ok (.if_icmp .ge 19, 3) := dk_162 0 19 (dk_at dksX7_letter_0 8 rfl rfl)
theorem dX7_letter_11 : decode cX7_letter 11 = .ok (.aload_n 0, 1) := dk_42 (dk_at dksX7_letter_0 11 rfl rfl)
theorem dX7_letter_12 : decode cX7_letter 12 = .ok (.getfield 7, 3) := dk_180 0 7 (dk_at dksX7_letter_0 12 rfl rfl)
theorem dX7_letter_15 : decode cX7_letter 15 = .ok (.iload_n 1, 1) := dk_27 (dk_at dksX7_letter_0 15 rfl rfl)
theorem dX7_letter_16 : decode cX7_letter 16 = .ok (.invokevirtual 35, 3) := dk_182 0 35 (dk_at dksX7_letter_0 16 rfl rfl)
theorem dX7_letter_19 : decode cX7_letter 19 = .ok (.bipush 97, 2) := dk_16 97 (dk_at dksX7_letter_0 19 rfl rfl)
theorem dX7_letter_21 : decode cX7_letter 21 = .ok (.isub, 1) := dk_100 (dk_at dksX7_letter_0 21 rfl rfl)
theorem dX7_letter_22 : decode cX7_letter 22 = .ok (.iconst 1, 1) := dk_4 (dk_at dksX7_letter_0 22 rfl rfl)
theorem dX7_letter_23 : decode cX7_letter 23 = .ok (.iadd, 1) := dk_96 (dk_at dksX7_letter_0 23 rfl rfl)
theorem dX7_letter_24 : decode cX7_letter 24 = .ok (.goto 4, 3) := dk_167 0 4 (dk_at dksX7_letter_1 0 rfl rfl)
theorem dX7_letter_27 : decode cX7_letter 27 = .ok (.iconst 0, 1) := dk_3 (dk_at dksX7_letter_1 3 rfl rfl)
theorem dX7_letter_28 : decode cX7_letter 28 = .ok (.ireturn, 1) := dk_172 (dk_at dksX7_letter_1 4 rfl rfl)
abbrev cX7_isOf : ByteArray := prog_9_method_3_code
def yX7_isOf : MethodName := ⟨RX7, "isOf", "(I)Z"⟩
def dkwX7_isOf_0 : List UInt8 := [27, 42, 180, 0, 13, 42, 180, 0, 17, 184, 0, 39, 172]
abbrev dktX7_isOf_0 : List UInt8 := dkwX7_isOf_0 ++ []
theorem dksX7_isOf_0 : cX7_isOf.data.toList.drop 0 = dktX7_isOf_0 := by decide +kernel
theorem dX7_isOf_0 : decode cX7_isOf 0 = .ok (.iload_n 1, 1) := dk_27 (dk_at dksX7_isOf_0 0 rfl rfl)
theorem dX7_isOf_1 : decode cX7_isOf 1 = .ok (.aload_n 0, 1) := dk_42 (dk_at dksX7_isOf_0 1 rfl rfl)
theorem dX7_isOf_2 : decode cX7_isOf 2 = .ok (.getfield 13, 3) := dk_180 0 13 (dk_at dksX7_isOf_0 2 rfl rfl)
theorem dX7_isOf_5 : decode cX7_isOf 5 = .ok (.aload_n 0, 1) := dk_42 (dk_at dksX7_isOf_0 5 rfl rfl)
theorem dX7_isOf_6 : decode cX7_isOf 6 = .ok (.getfield 17, 3) := dk_180 0 17 (dk_at dksX7_isOf_0 6 rfl rfl)
theorem dX7_isOf_9 : decode cX7_isOf 9 = .ok (.invokestatic 39, 3) := dk_184 0 39 (dk_at dksX7_isOf_0 9 rfl rfl)
theorem dX7_isOf_12 : decode cX7_isOf 12 = .ok (.ireturn, 1) := dk_172 (dk_at dksX7_isOf_0 12 rfl rfl)
theorem q193 : (Jvm.Cond.initialized "BentRiver$Lord") ∈ lw_all := lw_g (lw_at lw_m1 20 rfl) rfl
theorem q863 : (Jvm.Cond.instantiable "BentRiver$Lord" (6 : Nat)) ∈ lw_all := lw_g (lw_at lw_m3 210 rfl) rfl
theorem q866 : (Jvm.Cond.instanceMethod ({ cls := "BentRiver$Lord", name := "<init>", desc := "(Ljava/lang/String;IIIII)V" } : Jvm.MethodName)) ∈ lw_all := lw_g (lw_at lw_m3 213 rfl) rfl
theorem q867 : (Jvm.Cond.code ({ cls := "BentRiver$Lord", name := "<init>", desc := "(Ljava/lang/String;IIIII)V" } : Jvm.MethodName) prog_9_method_1_code (7 : Nat) (Option.none : Option Jvm.ClassFile.FieldType)) ∈ lw_all := lw_g (lw_at lw_m3 214 rfl) rfl
theorem q868 : (Jvm.Cond.methodLink "BentRiver$Lord" (1 : Nat) ({ cls := "java/lang/Object", name := "<init>", desc := "()V" } : Jvm.MethodName)) ∈ lw_all := lw_g (lw_at lw_m3 215 rfl) rfl
theorem q869 : (Jvm.Cond.fieldLink "BentRiver$Lord" (7 : Nat) "BentRiver$Lord" "name" "Ljava/lang/String;") ∈ lw_all := lw_g (lw_at lw_m3 216 rfl) rfl
theorem q871 : (Jvm.Cond.fieldLink "BentRiver$Lord" (13 : Nat) "BentRiver$Lord" "from" "I") ∈ lw_all := lw_g (lw_at lw_m3 218 rfl) rfl
theorem q874 : (Jvm.Cond.fieldLink "BentRiver$Lord" (17 : Nat) "BentRiver$Lord" "to" "I") ∈ lw_all := lw_g (lw_at lw_m3 221 rfl) rfl
theorem q877 : (Jvm.Cond.fieldLink "BentRiver$Lord" (20 : Nat) "BentRiver$Lord" "pays" "I") ∈ lw_all := lw_g (lw_at lw_m3 224 rfl) rfl
theorem q880 : (Jvm.Cond.fieldLink "BentRiver$Lord" (23 : Nat) "BentRiver$Lord" "joy" "I") ∈ lw_all := lw_g (lw_at lw_m3 227 rfl) rfl
theorem q883 : (Jvm.Cond.fieldLink "BentRiver$Lord" (26 : Nat) "BentRiver$Lord" "purse" "I") ∈ lw_all := lw_g (lw_at lw_m3 230 rfl) rfl
theorem q885 : (Jvm.Cond.laysFinal "BentRiver$Lord" "BentRiver$Lord" "name" "Ljava/lang/String;") ∈ lw_all := lw_g (lw_at lw_m3 232 rfl) rfl
theorem q886 : (Jvm.Cond.soleField "BentRiver$Lord" "name") ∈ lw_all := lw_g (lw_at lw_m3 233 rfl) rfl
theorem q887 : (Jvm.Cond.laysFinal "BentRiver$Lord" "BentRiver$Lord" "from" "I") ∈ lw_all := lw_g (lw_at lw_m3 234 rfl) rfl
theorem q888 : (Jvm.Cond.soleField "BentRiver$Lord" "from") ∈ lw_all := lw_g (lw_at lw_m3 235 rfl) rfl
theorem q889 : (Jvm.Cond.laysFinal "BentRiver$Lord" "BentRiver$Lord" "to" "I") ∈ lw_all := lw_g (lw_at lw_m3 236 rfl) rfl
theorem q890 : (Jvm.Cond.soleField "BentRiver$Lord" "to") ∈ lw_all := lw_g (lw_at lw_m3 237 rfl) rfl
theorem q891 : (Jvm.Cond.laysFinal "BentRiver$Lord" "BentRiver$Lord" "pays" "I") ∈ lw_all := lw_g (lw_at lw_m3 238 rfl) rfl
theorem q892 : (Jvm.Cond.soleField "BentRiver$Lord" "pays") ∈ lw_all := lw_g (lw_at lw_m3 239 rfl) rfl
theorem q893 : (Jvm.Cond.laysFinal "BentRiver$Lord" "BentRiver$Lord" "joy" "I") ∈ lw_all := lw_g (lw_at lw_m4 0 rfl) rfl
theorem q894 : (Jvm.Cond.soleField "BentRiver$Lord" "joy") ∈ lw_all := lw_g (lw_at lw_m4 1 rfl) rfl
theorem q895 : (Jvm.Cond.laysFinal "BentRiver$Lord" "BentRiver$Lord" "purse" "I") ∈ lw_all := lw_g (lw_at lw_m4 2 rfl) rfl
theorem q896 : (Jvm.Cond.soleField "BentRiver$Lord" "purse") ∈ lw_all := lw_g (lw_at lw_m4 3 rfl) rfl
theorem q897 : (Jvm.Cond.superclass "BentRiver$Lord" "java/lang/Object") ∈ lw_all := lw_g (lw_at lw_m4 4 rfl) rfl
theorem q945 : (Jvm.Cond.selects "BentRiver$Lord" ({ cls := "java/lang/Object", name := "getClass", desc := "()Ljava/lang/Class;" } : Jvm.MethodName) ({ cls := "java/lang/Object", name := "getClass", desc := "()Ljava/lang/Class;" } : Jvm.MethodName)) ∈ lw_all := lw_g (lw_at lw_m4 52 rfl) rfl
theorem q1401 : (Jvm.Cond.instanceMethod ({ cls := "BentRiver$Lord", name := "letter", desc := "(I)I" } : Jvm.MethodName)) ∈ lw_all := lw_g (lw_at lw_m6 28 rfl) rfl
theorem q1402 : (Jvm.Cond.selects "BentRiver$Lord" ({ cls := "BentRiver$Lord", name := "letter", desc := "(I)I" } : Jvm.MethodName) ({ cls := "BentRiver$Lord", name := "letter", desc := "(I)I" } : Jvm.MethodName)) ∈ lw_all := lw_g (lw_at lw_m6 29 rfl) rfl
theorem q1403 : (Jvm.Cond.code ({ cls := "BentRiver$Lord", name := "letter", desc := "(I)I" } : Jvm.MethodName) prog_9_method_2_code (2 : Nat) (Option.some Jvm.ClassFile.FieldType.int)) ∈ lw_all := lw_g (lw_at lw_m6 30 rfl) rfl
theorem q1404 : (Jvm.Cond.methodLink "BentRiver$Lord" (29 : Nat) ({ cls := "java/lang/String", name := "length", desc := "()I" } : Jvm.MethodName)) ∈ lw_all := lw_g (lw_at lw_m6 31 rfl) rfl
theorem q1405 : (Jvm.Cond.methodLink "BentRiver$Lord" (35 : Nat) ({ cls := "java/lang/String", name := "charAt", desc := "(I)C" } : Jvm.MethodName)) ∈ lw_all := lw_g (lw_at lw_m6 32 rfl) rfl
theorem q1430 : (Jvm.Cond.instanceMethod ({ cls := "BentRiver$Lord", name := "isOf", desc := "(I)Z" } : Jvm.MethodName)) ∈ lw_all := lw_g (lw_at lw_m6 57 rfl) rfl
theorem q1431 : (Jvm.Cond.selects "BentRiver$Lord" ({ cls := "BentRiver$Lord", name := "isOf", desc := "(I)Z" } : Jvm.MethodName) ({ cls := "BentRiver$Lord", name := "isOf", desc := "(I)Z" } : Jvm.MethodName)) ∈ lw_all := lw_g (lw_at lw_m6 58 rfl) rfl
theorem q1432 : (Jvm.Cond.code ({ cls := "BentRiver$Lord", name := "isOf", desc := "(I)Z" } : Jvm.MethodName) prog_9_method_3_code (2 : Nat) (Option.some Jvm.ClassFile.FieldType.boolean)) ∈ lw_all := lw_g (lw_at lw_m6 59 rfl) rfl
theorem q1433 : (Jvm.Cond.methodLinkNest "BentRiver$Lord" (39 : Nat) ({ cls := "BentRiver", name := "is", desc := "(III)Z" } : Jvm.MethodName) "BentRiver") ∈ lw_tbl := lw_at lw_m6 60 rfl
theorem q2773 : (Jvm.Cond.castable "BentRiver$Lord" "java/lang/Object") ∈ lw_tbl := lw_at lw_m11 200 rfl
theorem in_X7 : ∀ w ∈ wsX70, w ∈ lw_all := lw_in wsX70 [885, 887, 889, 891, 893, 895] (by decide +kernel) (by decide +kernel)
/-! BentRiver$Value -/
set_option maxRecDepth 100000
def RX8 : String := "BentRiver$Value"
abbrev cX8_init : ByteArray := prog_19_method_1_code
def yX8_init : MethodName := ⟨RX8, "<init>", "()V"⟩
theorem dX8_init_0 : decode cX8_init 0 = .ok (.aload_n 0, 1) := by decide +kernel
theorem dX8_init_1 : decode cX8_init 1 = .ok (.invokespecial 1, 3) := by decide +kernel
theorem dX8_init_4 : decode cX8_init 4 = .ok (.return_, 1) := by decide +kernel
theorem q197 : (Jvm.Cond.initialized "BentRiver$Value") ∈ lw_all := lw_g (lw_at lw_m1 24 rfl) rfl
theorem q989 : (Jvm.Cond.instanceMethod ({ cls := "BentRiver$Value", name := "<init>", desc := "()V" } : Jvm.MethodName)) ∈ lw_all := lw_g (lw_at lw_m4 96 rfl) rfl
theorem q990 : (Jvm.Cond.code ({ cls := "BentRiver$Value", name := "<init>", desc := "()V" } : Jvm.MethodName) prog_19_method_1_code (1 : Nat) (Option.none : Option Jvm.ClassFile.FieldType)) ∈ lw_all := lw_g (lw_at lw_m4 97 rfl) rfl
theorem q991 : (Jvm.Cond.methodLink "BentRiver$Value" (1 : Nat) ({ cls := "java/lang/Object", name := "<init>", desc := "()V" } : Jvm.MethodName)) ∈ lw_all := lw_g (lw_at lw_m4 98 rfl) rfl
theorem q1324 : (Jvm.Cond.declares ({ cls := "BentRiver$Value", name := "at", desc := "(LBentRiver$Moment;)J" } : Jvm.MethodName)) ∈ lw_tbl := lw_at lw_m5 191 rfl
theorem q1325 : (Jvm.Cond.sameMethod "BentRiver$Value" "BentRiver$Value" "at" "(LBentRiver$Moment;)J") ∈ lw_all := lw_g (lw_at lw_m5 192 rfl) rfl
/-! BentRiver$Chain -/
set_option maxRecDepth 100000
def RX9 : String := "BentRiver$Chain"
def TX9 : u_T := fun k => match k with
  | 0 => ("BentRiver$Chain", "values", "Ljava/util/List;", true)
  | _ => ("BentRiver$Chain", "signs", "Ljava/lang/StringBuilder;", true)
def tyX9 : Nat → FieldType := fun k => match k with
  | 0 => .object "java/util/List"
  | _ => .object "java/lang/StringBuilder"
abbrev wsX90 : List Cond := u_ws RX9 TX9 2
theorem nmX9 : ∀ a, a < 2 → ∀ b, b < 2 → a ≠ b → (TX9 a).2.1 ≠ (TX9 b).2.1 := by decide +kernel
theorem tyX9_ok : ∀ k, k < 2 → parseFieldDescriptor (TX9 k).2.2.1 = some (tyX9 k) := by decide +kernel
abbrev cX9_init : ByteArray := prog_4_method_1_code
def yX9_init : MethodName := ⟨RX9, "<init>", "()V"⟩
def dkwX9_init_1 : List UInt8 := [181, 0, 21, 177]
abbrev dktX9_init_1 : List UInt8 := dkwX9_init_1 ++ []
def dkwX9_init_0 : List UInt8 := [42, 183, 0, 1, 42, 187, 0, 7, 89, 5, 183, 0, 9, 181, 0, 12, 42, 187, 0, 18, 89, 183, 0, 20]
abbrev dktX9_init_0 : List UInt8 := dkwX9_init_0 ++ dktX9_init_1
theorem dksX9_init_0 : cX9_init.data.toList.drop 0 = dktX9_init_0 := by decide +kernel
theorem dksX9_init_1 : cX9_init.data.toList.drop 24 = dktX9_init_1 := dk_seg dksX9_init_0 24 rfl rfl
theorem dX9_init_0 : decode cX9_init 0 = .ok (.aload_n 0, 1) := dk_42 (dk_at dksX9_init_0 0 rfl rfl)
theorem dX9_init_1 : decode cX9_init 1 = .ok (.invokespecial 1, 3) := dk_183 0 1 (dk_at dksX9_init_0 1 rfl rfl)
theorem dX9_init_4 : decode cX9_init 4 = .ok (.aload_n 0, 1) := dk_42 (dk_at dksX9_init_0 4 rfl rfl)
theorem dX9_init_5 : decode cX9_init 5 = .ok (.new 7, 3) := dk_187 0 7 (dk_at dksX9_init_0 5 rfl rfl)
theorem dX9_init_8 : decode cX9_init 8 = .ok (.dup, 1) := dk_89 (dk_at dksX9_init_0 8 rfl rfl)
theorem dX9_init_9 : decode cX9_init 9 = .ok (.iconst 2, 1) := dk_5 (dk_at dksX9_init_0 9 rfl rfl)
theorem dX9_init_10 : decode cX9_init 10 = .ok (.invokespecial 9, 3) := dk_183 0 9 (dk_at dksX9_init_0 10 rfl rfl)
theorem dX9_init_13 : decode cX9_init 13 = .ok (.putfield 12, 3) := dk_181 0 12 (dk_at dksX9_init_0 13 rfl rfl)
theorem dX9_init_16 : decode cX9_init 16 = .ok (.aload_n 0, 1) := dk_42 (dk_at dksX9_init_0 16 rfl rfl)
theorem dX9_init_17 : decode cX9_init 17 = .ok (.new 18, 3) := dk_187 0 18 (dk_at dksX9_init_0 17 rfl rfl)
theorem dX9_init_20 : decode cX9_init 20 = .ok (.dup, 1) := dk_89 (dk_at dksX9_init_0 20 rfl rfl)
theorem dX9_init_21 : decode cX9_init 21 = .ok (.invokespecial 20, 3) := dk_183 0 20 (dk_at dksX9_init_0 21 rfl rfl)
theorem dX9_init_24 : decode cX9_init 24 = .ok (.putfield 21, 3) := dk_181 0 21 (dk_at dksX9_init_1 0 rfl rfl)
theorem dX9_init_27 : decode cX9_init 27 = .ok (.return_, 1) := dk_177 (dk_at dksX9_init_1 3 rfl rfl)
abbrev cX9_add : ByteArray := prog_4_method_2_code
def yX9_add : MethodName := ⟨RX9, "add", "(CLBentRiver$Value;)V"⟩
def dkwX9_add_0 : List UInt8 := [42, 180, 0, 21, 27, 182, 0, 25, 87, 42, 180, 0, 12, 44, 185, 0, 29, 2, 0, 87, 177]
abbrev dktX9_add_0 : List UInt8 := dkwX9_add_0 ++ []
theorem dksX9_add_0 : cX9_add.data.toList.drop 0 = dktX9_add_0 := by decide +kernel
theorem dX9_add_0 : decode cX9_add 0 = .ok (.aload_n 0, 1) := dk_42 (dk_at dksX9_add_0 0 rfl rfl)
theorem dX9_add_1 : decode cX9_add 1 = .ok (.getfield 21, 3) := dk_180 0 21 (dk_at dksX9_add_0 1 rfl rfl)
theorem dX9_add_4 : decode cX9_add 4 = .ok (.iload_n 1, 1) := dk_27 (dk_at dksX9_add_0 4 rfl rfl)
theorem dX9_add_5 : decode cX9_add 5 = .ok (.invokevirtual 25, 3) := dk_182 0 25 (dk_at dksX9_add_0 5 rfl rfl)
theorem dX9_add_8 : decode cX9_add 8 = .ok (.pop, 1) := dk_87 (dk_at dksX9_add_0 8 rfl rfl)
theorem dX9_add_9 : decode cX9_add 9 = .ok (.aload_n 0, 1) := dk_42 (dk_at dksX9_add_0 9 rfl rfl)
theorem dX9_add_10 : decode cX9_add 10 = .ok (.getfield 12, 3) := dk_180 0 12 (dk_at dksX9_add_0 10 rfl rfl)
theorem dX9_add_13 : decode cX9_add 13 = .ok (.aload_n 2, 1) := dk_44 (dk_at dksX9_add_0 13 rfl rfl)
theorem dX9_add_14 : decode cX9_add 14 = .ok (.invokeinterface 29 2, 5) := by decide +kernel
theorem dX9_add_19 : decode cX9_add 19 = .ok (.pop, 1) := dk_87 (dk_at dksX9_add_0 19 rfl rfl)
theorem dX9_add_20 : decode cX9_add 20 = .ok (.return_, 1) := dk_177 (dk_at dksX9_add_0 20 rfl rfl)
abbrev cX9_at : ByteArray := prog_4_method_3_code
def yX9_at : MethodName := ⟨RX9, "at", "(LBentRiver$Moment;)J"⟩
def dkwX9_at_3 : List UInt8 := [132, 4, 1, 167, 255, 204, 32, 173]
abbrev dktX9_at_3 : List UInt8 := dkwX9_at_3 ++ []
def dkwX9_at_2 : List UInt8 := [180, 0, 12, 21, 4, 185, 0, 35, 2, 0, 192, 0, 2, 43, 182, 0, 39, 184, 0, 51, 184, 0, 55, 65]
abbrev dktX9_at_2 : List UInt8 := dkwX9_at_2 ++ dktX9_at_3
def dkwX9_at_1 : List UInt8 := [180, 0, 12, 185, 0, 43, 1, 0, 162, 0, 44, 42, 180, 0, 21, 21, 4, 182, 0, 47, 32, 42]
abbrev dktX9_at_1 : List UInt8 := dkwX9_at_1 ++ dktX9_at_2
def dkwX9_at_0 : List UInt8 := [42, 180, 0, 12, 3, 185, 0, 35, 2, 0, 192, 0, 2, 43, 182, 0, 39, 65, 4, 54, 4, 21, 4, 42]
abbrev dktX9_at_0 : List UInt8 := dkwX9_at_0 ++ dktX9_at_1
theorem dksX9_at_0 : cX9_at.data.toList.drop 0 = dktX9_at_0 := by decide +kernel
theorem dksX9_at_1 : cX9_at.data.toList.drop 24 = dktX9_at_1 := dk_seg dksX9_at_0 24 rfl rfl
theorem dksX9_at_2 : cX9_at.data.toList.drop 46 = dktX9_at_2 := dk_seg dksX9_at_1 22 rfl rfl
theorem dksX9_at_3 : cX9_at.data.toList.drop 70 = dktX9_at_3 := dk_seg dksX9_at_2 24 rfl rfl
theorem dX9_at_0 : decode cX9_at 0 = .ok (.aload_n 0, 1) := dk_42 (dk_at dksX9_at_0 0 rfl rfl)
theorem dX9_at_1 : decode cX9_at 1 = .ok (.getfield 12, 3) := dk_180 0 12 (dk_at dksX9_at_0 1 rfl rfl)
theorem dX9_at_4 : decode cX9_at 4 = .ok (.iconst 0, 1) := dk_3 (dk_at dksX9_at_0 4 rfl rfl)
theorem dX9_at_5 : decode cX9_at 5 = .ok (.invokeinterface 35 2, 5) := by decide +kernel
theorem dX9_at_10 : decode cX9_at 10 = .ok (.checkcast 2, 3) := dk_192 0 2 (dk_at dksX9_at_0 10 rfl rfl)
theorem dX9_at_13 : decode cX9_at 13 = .ok (.aload_n 1, 1) := dk_43 (dk_at dksX9_at_0 13 rfl rfl)
theorem dX9_at_14 : decode cX9_at 14 = .ok (.invokevirtual 39, 3) := dk_182 0 39 (dk_at dksX9_at_0 14 rfl rfl)
theorem dX9_at_17 : decode cX9_at 17 = .ok (.lstore_n 2, 1) := dk_65 (dk_at dksX9_at_0 17 rfl rfl)
theorem dX9_at_18 : decode cX9_at 18 = .ok (.iconst 1, 1) := dk_4 (dk_at dksX9_at_0 18 rfl rfl)
theorem dX9_at_19 : decode cX9_at 19 = .ok (.istore 4, 2) := dk_54 4 (dk_at dksX9_at_0 19 rfl rfl)
theorem dX9_at_21 : decode cX9_at 21 = .ok (.iload 4, 2) := dk_21 4 (dk_at dksX9_at_0 21 rfl rfl)
theorem dX9_at_23 : decode cX9_at 23 = .ok (.aload_n 0, 1) := dk_42 (dk_at dksX9_at_0 23 rfl rfl)
theorem dX9_at_24 : decode cX9_at 24 = .ok (.getfield 12, 3) := dk_180 0 12 (dk_at dksX9_at_1 0 rfl rfl)
theorem dX9_at_27 : decode cX9_at 27 = .ok (.invokeinterface 43 1, 5) := by decide +kernel
theorem dX9_at_32 : decode cX9_at 32 = .ok (.if_icmp .ge 44, 3) := dk_162 0 44 (dk_at dksX9_at_1 8 rfl rfl)
theorem dX9_at_35 : decode cX9_at 35 = .ok (.aload_n 0, 1) := dk_42 (dk_at dksX9_at_1 11 rfl rfl)
theorem dX9_at_36 : decode cX9_at 36 = .ok (.getfield 21, 3) := dk_180 0 21 (dk_at dksX9_at_1 12 rfl rfl)
theorem dX9_at_39 : decode cX9_at 39 = .ok (.iload 4, 2) := dk_21 4 (dk_at dksX9_at_1 15 rfl rfl)
theorem dX9_at_41 : decode cX9_at 41 = .ok (.invokevirtual 47, 3) := dk_182 0 47 (dk_at dksX9_at_1 17 rfl rfl)
theorem dX9_at_44 : decode cX9_at 44 = .ok (.lload_n 2, 1) := dk_32 (dk_at dksX9_at_1 20 rfl rfl)
theorem dX9_at_45 : decode cX9_at 45 = .ok (.aload_n 0, 1) := dk_42 (dk_at dksX9_at_1 21 rfl rfl)
theorem dX9_at_46 : decode cX9_at 46 = .ok (.getfield 12, 3) := dk_180 0 12 (dk_at dksX9_at_2 0 rfl rfl)
theorem dX9_at_49 : decode cX9_at 49 = .ok (.iload 4, 2) := dk_21 4 (dk_at dksX9_at_2 3 rfl rfl)
theorem dX9_at_51 : decode cX9_at 51 = .ok (.invokeinterface 35 2, 5) := by decide +kernel
theorem dX9_at_56 : decode cX9_at 56 = .ok (.checkcast 2, 3) := dk_192 0 2 (dk_at dksX9_at_2 10 rfl rfl)
theorem dX9_at_59 : decode cX9_at 59 = .ok (.aload_n 1, 1) := dk_43 (dk_at dksX9_at_2 13 rfl rfl)
theorem dX9_at_60 : decode cX9_at 60 = .ok (.invokevirtual 39, 3) := dk_182 0 39 (dk_at dksX9_at_2 14 rfl rfl)
theorem dX9_at_63 : decode cX9_at 63 = .ok (.invokestatic 51, 3) := dk_184 0 51 (dk_at dksX9_at_2 17 rfl rfl)
theorem dX9_at_66 : decode cX9_at 66 = .ok (.invokestatic 55, 3) := dk_184 0 55 (dk_at dksX9_at_2 20 rfl rfl)
theorem dX9_at_69 : decode cX9_at 69 = .ok (.lstore_n 2, 1) := dk_65 (dk_at dksX9_at_2 23 rfl rfl)
theorem dX9_at_70 : decode cX9_at 70 = .ok (.iinc 4 1, 3) := dk_132 4 1 (dk_at dksX9_at_3 0 rfl rfl)
theorem dX9_at_73 : decode cX9_at 73 = .ok (.goto (-52), 3) := dk_167 255 204 (dk_at dksX9_at_3 3 rfl rfl)
theorem dX9_at_76 : decode cX9_at 76 = .ok (.lload_n 2, 1) := dk_32 (dk_at dksX9_at_3 6 rfl rfl)
theorem dX9_at_77 : decode cX9_at 77 = .ok (.lreturn, 1) := dk_173 (dk_at dksX9_at_3 7 rfl rfl)
abbrev cX9_two : ByteArray := prog_4_method_4_code
def yX9_two : MethodName := ⟨RX9, "two", "(CJJ)J"⟩
def dkwX9_two_3 : List UInt8 := [184, 0, 61, 173]
abbrev dktX9_two_3 : List UInt8 := dkwX9_two_3 ++ []
def dkwX9_two_2 : List UInt8 := [31, 33, 97, 173, 31, 33, 101, 173, 31, 33, 105, 173, 33, 9, 148, 154, 0, 7, 9, 167, 0, 8, 31, 33]
abbrev dktX9_two_2 : List UInt8 := dkwX9_two_2 ++ dktX9_two_3
def dkwX9_two_1 : List UInt8 := [170, 0, 0, 0, 0, 0, 43, 0, 0, 0, 42, 0, 0, 0, 45, 0, 0, 0, 39, 0, 0, 0, 31, 0, 0, 0, 43, 0, 0, 0, 35]
abbrev dktX9_two_1 : List UInt8 := dkwX9_two_1 ++ dktX9_two_2
def dkwX9_two_0 : List UInt8 := [26]
abbrev dktX9_two_0 : List UInt8 := dkwX9_two_0 ++ dktX9_two_1
theorem dksX9_two_0 : cX9_two.data.toList.drop 0 = dktX9_two_0 := by decide +kernel
theorem dksX9_two_1 : cX9_two.data.toList.drop 1 = dktX9_two_1 := dk_seg dksX9_two_0 1 rfl rfl
theorem dksX9_two_2 : cX9_two.data.toList.drop 32 = dktX9_two_2 := dk_seg dksX9_two_1 31 rfl rfl
theorem dksX9_two_3 : cX9_two.data.toList.drop 56 = dktX9_two_3 := dk_seg dksX9_two_2 24 rfl rfl
theorem dX9_two_0 : decode cX9_two 0 = .ok (.iload_n 0, 1) := dk_26 (dk_at dksX9_two_0 0 rfl rfl)
theorem dX9_two_1 : decode cX9_two 1 = .ok (.tableswitch 43 42 45 #[39, 31, 43, 35], 31) := by decide +kernel
theorem dX9_two_32 : decode cX9_two 32 = .ok (.lload_n 1, 1) := dk_31 (dk_at dksX9_two_2 0 rfl rfl)
theorem dX9_two_33 : decode cX9_two 33 = .ok (.lload_n 3, 1) := dk_33 (dk_at dksX9_two_2 1 rfl rfl)
theorem dX9_two_34 : decode cX9_two 34 = .ok (.ladd, 1) := dk_97 (dk_at dksX9_two_2 2 rfl rfl)
theorem dX9_two_35 : decode cX9_two 35 = .ok (.lreturn, 1) := dk_173 (dk_at dksX9_two_2 3 rfl rfl)
theorem dX9_two_36 : decode cX9_two 36 = .ok (.lload_n 1, 1) := dk_31 (dk_at dksX9_two_2 4 rfl rfl)
theorem dX9_two_37 : decode cX9_two 37 = .ok (.lload_n 3, 1) := dk_33 (dk_at dksX9_two_2 5 rfl rfl)
theorem dX9_two_38 : decode cX9_two 38 = .ok (.lsub, 1) := dk_101 (dk_at dksX9_two_2 6 rfl rfl)
theorem dX9_two_39 : decode cX9_two 39 = .ok (.lreturn, 1) := dk_173 (dk_at dksX9_two_2 7 rfl rfl)
theorem dX9_two_40 : decode cX9_two 40 = .ok (.lload_n 1, 1) := dk_31 (dk_at dksX9_two_2 8 rfl rfl)
theorem dX9_two_41 : decode cX9_two 41 = .ok (.lload_n 3, 1) := dk_33 (dk_at dksX9_two_2 9 rfl rfl)
theorem dX9_two_42 : decode cX9_two 42 = .ok (.lmul, 1) := dk_105 (dk_at dksX9_two_2 10 rfl rfl)
theorem dX9_two_43 : decode cX9_two 43 = .ok (.lreturn, 1) := dk_173 (dk_at dksX9_two_2 11 rfl rfl)
theorem dX9_two_44 : decode cX9_two 44 = .ok (.lload_n 3, 1) := dk_33 (dk_at dksX9_two_2 12 rfl rfl)
theorem dX9_two_45 : decode cX9_two 45 = .ok (.lconst 0, 1) := dk_9 (dk_at dksX9_two_2 13 rfl rfl)
theorem dX9_two_46 : decode cX9_two 46 = .ok (.lcmp, 1) := dk_148 (dk_at dksX9_two_2 14 rfl rfl)
theorem dX9_two_47 : decode cX9_two 47 = .ok (.ifCond .ne 7, 3) := dk_154 0 7 (dk_at dksX9_two_2 15 rfl rfl)
theorem dX9_two_50 : decode cX9_two 50 = .ok (.lconst 0, 1) := dk_9 (dk_at dksX9_two_2 18 rfl rfl)
theorem dX9_two_51 : decode cX9_two 51 = .ok (.goto 8, 3) := dk_167 0 8 (dk_at dksX9_two_2 19 rfl rfl)
theorem dX9_two_54 : decode cX9_two 54 = .ok (.lload_n 1, 1) := dk_31 (dk_at dksX9_two_2 22 rfl rfl)
theorem dX9_two_55 : decode cX9_two 55 = .ok (.lload_n 3, 1) := dk_33 (dk_at dksX9_two_2 23 rfl rfl)
theorem dX9_two_56 : decode cX9_two 56 = .ok (.invokestatic 61, 3) := dk_184 0 61 (dk_at dksX9_two_3 0 rfl rfl)
theorem dX9_two_59 : decode cX9_two 59 = .ok (.lreturn, 1) := dk_173 (dk_at dksX9_two_3 3 rfl rfl)
theorem q198 : (Jvm.Cond.initialized "BentRiver$Chain") ∈ lw_all := lw_g (lw_at lw_m1 25 rfl) rfl
theorem q940 : (Jvm.Cond.selects "BentRiver$Chain" ({ cls := "java/lang/Object", name := "getClass", desc := "()Ljava/lang/Class;" } : Jvm.MethodName) ({ cls := "java/lang/Object", name := "getClass", desc := "()Ljava/lang/Class;" } : Jvm.MethodName)) ∈ lw_all := lw_g (lw_at lw_m4 47 rfl) rfl
theorem q984 : (Jvm.Cond.instantiable "BentRiver$Chain" (2 : Nat)) ∈ lw_all := lw_g (lw_at lw_m4 91 rfl) rfl
theorem q986 : (Jvm.Cond.instanceMethod ({ cls := "BentRiver$Chain", name := "<init>", desc := "()V" } : Jvm.MethodName)) ∈ lw_all := lw_g (lw_at lw_m4 93 rfl) rfl
theorem q987 : (Jvm.Cond.code ({ cls := "BentRiver$Chain", name := "<init>", desc := "()V" } : Jvm.MethodName) prog_4_method_1_code (1 : Nat) (Option.none : Option Jvm.ClassFile.FieldType)) ∈ lw_all := lw_g (lw_at lw_m4 94 rfl) rfl
theorem q988 : (Jvm.Cond.methodLinkNest "BentRiver$Chain" (1 : Nat) ({ cls := "BentRiver$Value", name := "<init>", desc := "()V" } : Jvm.MethodName) "BentRiver") ∈ lw_tbl := lw_at lw_m4 95 rfl
theorem q992 : (Jvm.Cond.classLink "BentRiver$Chain" (7 : Nat) "java/util/ArrayList") ∈ lw_all := lw_g (lw_at lw_m4 99 rfl) rfl
theorem q993 : (Jvm.Cond.methodLink "BentRiver$Chain" (9 : Nat) ({ cls := "java/util/ArrayList", name := "<init>", desc := "(I)V" } : Jvm.MethodName)) ∈ lw_all := lw_g (lw_at lw_m4 100 rfl) rfl
theorem q994 : (Jvm.Cond.classLink "BentRiver$Chain" (18 : Nat) "java/lang/StringBuilder") ∈ lw_all := lw_g (lw_at lw_m4 101 rfl) rfl
theorem q996 : (Jvm.Cond.methodLink "BentRiver$Chain" (20 : Nat) ({ cls := "java/lang/StringBuilder", name := "<init>", desc := "()V" } : Jvm.MethodName)) ∈ lw_all := lw_g (lw_at lw_m4 103 rfl) rfl
theorem q1017 : (Jvm.Cond.fieldLink "BentRiver$Chain" (12 : Nat) "BentRiver$Chain" "values" "Ljava/util/List;") ∈ lw_all := lw_g (lw_at lw_m4 124 rfl) rfl
theorem q1018 : (Jvm.Cond.fieldLink "BentRiver$Chain" (21 : Nat) "BentRiver$Chain" "signs" "Ljava/lang/StringBuilder;") ∈ lw_all := lw_g (lw_at lw_m4 125 rfl) rfl
theorem q1019 : (Jvm.Cond.laysFinal "BentRiver$Chain" "BentRiver$Chain" "values" "Ljava/util/List;") ∈ lw_all := lw_g (lw_at lw_m4 126 rfl) rfl
theorem q1020 : (Jvm.Cond.soleField "BentRiver$Chain" "values") ∈ lw_all := lw_g (lw_at lw_m4 127 rfl) rfl
theorem q1021 : (Jvm.Cond.laysFinal "BentRiver$Chain" "BentRiver$Chain" "signs" "Ljava/lang/StringBuilder;") ∈ lw_all := lw_g (lw_at lw_m4 128 rfl) rfl
theorem q1022 : (Jvm.Cond.soleField "BentRiver$Chain" "signs") ∈ lw_all := lw_g (lw_at lw_m4 129 rfl) rfl
theorem q1023 : (Jvm.Cond.superclass "BentRiver$Chain" "BentRiver$Value") ∈ lw_all := lw_g (lw_at lw_m4 130 rfl) rfl
theorem q1107 : (Jvm.Cond.instanceMethod ({ cls := "BentRiver$Chain", name := "add", desc := "(CLBentRiver$Value;)V" } : Jvm.MethodName)) ∈ lw_all := lw_g (lw_at lw_m4 214 rfl) rfl
theorem q1108 : (Jvm.Cond.selects "BentRiver$Chain" ({ cls := "BentRiver$Chain", name := "add", desc := "(CLBentRiver$Value;)V" } : Jvm.MethodName) ({ cls := "BentRiver$Chain", name := "add", desc := "(CLBentRiver$Value;)V" } : Jvm.MethodName)) ∈ lw_all := lw_g (lw_at lw_m4 215 rfl) rfl
theorem q1109 : (Jvm.Cond.code ({ cls := "BentRiver$Chain", name := "add", desc := "(CLBentRiver$Value;)V" } : Jvm.MethodName) prog_4_method_2_code (3 : Nat) (Option.none : Option Jvm.ClassFile.FieldType)) ∈ lw_all := lw_g (lw_at lw_m4 216 rfl) rfl
theorem q1110 : (Jvm.Cond.methodLink "BentRiver$Chain" (25 : Nat) ({ cls := "java/lang/StringBuilder", name := "append", desc := "(C)Ljava/lang/StringBuilder;" } : Jvm.MethodName)) ∈ lw_all := lw_g (lw_at lw_m4 217 rfl) rfl
theorem q1165 : (Jvm.Cond.interfaceEntry "BentRiver$Chain" (29 : Nat)) ∈ lw_tbl := lw_at lw_m5 32 rfl
theorem q1166 : (Jvm.Cond.methodLink "BentRiver$Chain" (29 : Nat) ({ cls := "java/util/List", name := "add", desc := "(Ljava/lang/Object;)Z" } : Jvm.MethodName)) ∈ lw_all := lw_g (lw_at lw_m5 33 rfl) rfl
theorem q1340 : (Jvm.Cond.selects "BentRiver$Chain" ({ cls := "BentRiver$Value", name := "at", desc := "(LBentRiver$Moment;)J" } : Jvm.MethodName) ({ cls := "BentRiver$Chain", name := "at", desc := "(LBentRiver$Moment;)J" } : Jvm.MethodName)) ∈ lw_all := lw_g (lw_at lw_m5 207 rfl) rfl
theorem q1341 : (Jvm.Cond.instanceMethod ({ cls := "BentRiver$Chain", name := "at", desc := "(LBentRiver$Moment;)J" } : Jvm.MethodName)) ∈ lw_all := lw_g (lw_at lw_m5 208 rfl) rfl
theorem q1342 : (Jvm.Cond.code ({ cls := "BentRiver$Chain", name := "at", desc := "(LBentRiver$Moment;)J" } : Jvm.MethodName) prog_4_method_3_code (5 : Nat) (Option.some Jvm.ClassFile.FieldType.long)) ∈ lw_all := lw_g (lw_at lw_m5 209 rfl) rfl
theorem q1343 : (Jvm.Cond.interfaceEntry "BentRiver$Chain" (35 : Nat)) ∈ lw_tbl := lw_at lw_m5 210 rfl
theorem q1344 : (Jvm.Cond.methodLink "BentRiver$Chain" (35 : Nat) ({ cls := "java/util/List", name := "get", desc := "(I)Ljava/lang/Object;" } : Jvm.MethodName)) ∈ lw_all := lw_g (lw_at lw_m5 211 rfl) rfl
theorem q1345 : (Jvm.Cond.classLink "BentRiver$Chain" (2 : Nat) "BentRiver$Value") ∈ lw_all := lw_g (lw_at lw_m5 212 rfl) rfl
theorem q1346 : (Jvm.Cond.methodLink "BentRiver$Chain" (39 : Nat) ({ cls := "BentRiver$Value", name := "at", desc := "(LBentRiver$Moment;)J" } : Jvm.MethodName)) ∈ lw_all := lw_g (lw_at lw_m5 213 rfl) rfl
theorem q1366 : (Jvm.Cond.interfaceEntry "BentRiver$Chain" (43 : Nat)) ∈ lw_tbl := lw_at lw_m5 233 rfl
theorem q1367 : (Jvm.Cond.methodLink "BentRiver$Chain" (43 : Nat) ({ cls := "java/util/List", name := "size", desc := "()I" } : Jvm.MethodName)) ∈ lw_all := lw_g (lw_at lw_m5 234 rfl) rfl
theorem q1368 : (Jvm.Cond.methodLink "BentRiver$Chain" (47 : Nat) ({ cls := "java/lang/StringBuilder", name := "charAt", desc := "(I)C" } : Jvm.MethodName)) ∈ lw_all := lw_g (lw_at lw_m5 235 rfl) rfl
theorem q1378 : (Jvm.Cond.methodLink "BentRiver$Chain" (51 : Nat) ({ cls := "BentRiver$Chain", name := "two", desc := "(CJJ)J" } : Jvm.MethodName)) ∈ lw_all := lw_g (lw_at lw_m6 5 rfl) rfl
theorem q1379 : (Jvm.Cond.static ({ cls := "BentRiver$Chain", name := "two", desc := "(CJJ)J" } : Jvm.MethodName)) ∈ lw_all := lw_g (lw_at lw_m6 6 rfl) rfl
theorem q1380 : (Jvm.Cond.code ({ cls := "BentRiver$Chain", name := "two", desc := "(CJJ)J" } : Jvm.MethodName) prog_4_method_4_code (5 : Nat) (Option.some Jvm.ClassFile.FieldType.long)) ∈ lw_all := lw_g (lw_at lw_m6 7 rfl) rfl
theorem q1381 : (Jvm.Cond.methodLink "BentRiver$Chain" (61 : Nat) ({ cls := "java/lang/Math", name := "floorDiv", desc := "(JJ)J" } : Jvm.MethodName)) ∈ lw_all := lw_g (lw_at lw_m6 8 rfl) rfl
theorem q1384 : (Jvm.Cond.methodLinkNest "BentRiver$Chain" (55 : Nat) ({ cls := "BentRiver", name := "held", desc := "(J)J" } : Jvm.MethodName) "BentRiver") ∈ lw_tbl := lw_at lw_m6 11 rfl
theorem q2759 : (Jvm.Cond.castable "BentRiver$Chain" "BentRiver$Value") ∈ lw_tbl := lw_at lw_m11 186 rfl
theorem q2774 : (Jvm.Cond.castable "BentRiver$Chain" "java/lang/Object") ∈ lw_tbl := lw_at lw_m11 201 rfl
theorem in_X9 : ∀ w ∈ wsX90, w ∈ lw_all := lw_in wsX90 [1019, 1021] (by decide +kernel) (by decide +kernel)
